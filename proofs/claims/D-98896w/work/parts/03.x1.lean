/-! the lists that layer X1 speaks of: classes, array types, statics, interfaces' entries -/
def xCl : List vw_C := [(RX1, TX1, 15), (RX2, TX2, 8), (RX3, TX3, 6), (RX4, TX4, 64), (RX5, TX5, 15), (RX6, TX6, 7), (RX7, TX7, 2), (RX8, TX8, 1), (RX9, TX9, 1), (RX10, TX10, 1), (RJ2, TJ2, 3), (RJ14, TJ14, 1), (RJ18, TJ18, 4), (RJ20, TJ20, 6), (RJ6, TJ6, 6)]
def xTys : List FieldType := [.int, .byte, .boolean, .long, .object "java/lang/Object", .object "java/lang/String", .array .int]
def xSts : List (String × String × String) := [("java/util/ArrayList", "DEFAULTCAPACITY_EMPTY_ELEMENTDATA", "[Ljava/lang/Object;"), ("java/util/ArrayList", "EMPTY_ELEMENTDATA", "[Ljava/lang/Object;"), ("java/lang/Integer$IntegerCache", "cache", "[Ljava/lang/Integer;"), ("java/lang/Integer$IntegerCache", "high", "I"), ("java/lang/String", "COMPACT_STRINGS", "Z"), ("jdk/internal/util/Preconditions", "SIOOBE_FORMATTER", "Ljava/util/function/BiFunction;"), ("java/lang/Throwable", "UNASSIGNED_STACK", "[Ljava/lang/StackTraceElement;"), ("java/lang/Throwable", "SUPPRESSED_SENTINEL", "Ljava/util/List;")]
def TStr : u_T := fun k => match k with
  | 0 => ("java/lang/String", "value", "[B", true)
  | _ => ("java/lang/String", "coder", "B", true)
/-- the classes, and the texts' class behind them -/
def xClS : List vw_C := xCl ++ [("java/lang/String", TStr, 2)]
/-- the texts: who speaks of them, by which entry -/
def xStrs : List (Nat × String) := [(33, "cellar"), (35, "warmth"), (37, "age"), (39, "spores"), (41, "grows"), (43, "beats"), (49, "size"), (51, "damp"), (53, "food"), (55, "friends"), (57, "foes"), (59, "kind"), (64, "other"), (113, ";()+-*/<="), (191, "not"), (201, "and"), (208, "or"), (278, "cell"), (282, "mould")]
def xMis : List String := ["java/util/ArrayList", "[Ljava/lang/Object;"]
def xFws : List (String × MethodName × MethodName) := [
  ("java/util/ArrayList", ⟨"java/util/List", "add", "(Ljava/lang/Object;)Z"⟩, ⟨"java/util/ArrayList", "add", "(Ljava/lang/Object;)Z"⟩),
  ("java/util/ArrayList", ⟨"java/util/List", "size", "()I"⟩, ⟨"java/util/ArrayList", "size", "()I"⟩),
  ("java/util/ArrayList", ⟨"java/util/List", "remove", "(I)Ljava/lang/Object;"⟩, ⟨"java/util/ArrayList", "remove", "(I)Ljava/lang/Object;"⟩),
  ("java/util/ArrayList", ⟨"java/util/List", "isEmpty", "()Z"⟩, ⟨"java/util/ArrayList", "isEmpty", "()Z"⟩),
  ("java/util/ArrayList", ⟨"java/util/List", "get", "(I)Ljava/lang/Object;"⟩, ⟨"java/util/ArrayList", "get", "(I)Ljava/lang/Object;"⟩),
  ("java/util/ArrayList", ⟨"java/util/Collection", "toArray", "()[Ljava/lang/Object;"⟩, ⟨"java/util/ArrayList", "toArray", "()[Ljava/lang/Object;"⟩),
  ("MouldVotes$Chain", ⟨"MouldVotes$Form", "of", "([I)I"⟩, ⟨"MouldVotes$Chain", "of", "([I)I"⟩),
  ("MouldVotes$Number", ⟨"MouldVotes$Form", "of", "([I)I"⟩, ⟨"MouldVotes$Number", "of", "([I)I"⟩),
  ("MouldVotes$Value", ⟨"MouldVotes$Form", "of", "([I)I"⟩, ⟨"MouldVotes$Value", "of", "([I)I"⟩),
  ("MouldVotes$Not", ⟨"MouldVotes$Form", "of", "([I)I"⟩, ⟨"MouldVotes$Not", "of", "([I)I"⟩)]
/-! LAYER X1: an abstract heap (address to cell), a world over it, one predicate for a run of one method, one contract form. -/
set_option maxRecDepth 100000
abbrev xC : Type := (FieldType × vp_A) ⊕ (Nat × List Value)
abbrev xH : Type := Nat → Option (Bool × xC)
/-- heap, next address, slots made so far -/
abbrev xF : Type := xH × Nat × Nat
/-- class numbers, places of fields, array classes, the first address of ours, statics, strings, class objects -/
abbrev xG : Type := (Nat → ClassId) × (Nat → Nat → Nat) × (FieldType → ClassId) × Nat × (Nat → Option Nat) × (Nat → Nat) × (Nat → Nat) × xH
abbrev gC (G : xG) : Nat → ClassId := G.1
abbrev gI (G : xG) : Nat → Nat → Nat := G.2.1
abbrev gA (G : xG) : FieldType → ClassId := G.2.2.1
abbrev gB (G : xG) : Nat := G.2.2.2.1
abbrev gS (G : xG) : Nat → Option Nat := G.2.2.2.2.1
abbrev gT (G : xG) : Nat → Nat := G.2.2.2.2.2.1
abbrev gM (G : xG) : Nat → Nat := G.2.2.2.2.2.2.1
/-- cells that stand beside the method's own world and stay as they are -/
abbrev gR (G : xG) : xH := G.2.2.2.2.2.2.2
def ol (g h : xH) : xH := fun a => match h a with
  | some c => some c
  | none => g a
theorem ol_some {g h : xH} {a : Nat} {c : Bool × xC} (e : h a = some c) : ol g h a = some c := by unfold ol; rw [e]
/-- which cells the law may write: those that it made -/
def xAf (G : xG) : Nat → Prop := fun q => gB G ≤ q
def xval (A : vp_A) (j : Nat) : Value := match A.2 with
  | .inl f => .int (f j)
  | .inr (.inl f) => .long (f j)
  | .inr (.inr (.inl f)) => .float (f j)
  | .inr (.inr (.inr (.inl f))) => .double (f j)
  | .inr (.inr (.inr (.inr f))) => va_rf (f j)
theorem xval_cell (cA : ClassId) (A : vp_A) : vp_cell cA A = arrV cA A.1 (xval A) := by
  obtain ⟨n, f | f | f | f | f⟩ := A <;> rfl
/-- what the abstract cell c says of the heap's cell a; of an old cell (false) less is said -/
def xat (G : xG) (U : State) (a : Nat) (c : Bool × xC) (H : Heap) : Prop := match c with
  | (true, .inl (ty, A)) => H[a]? = some (vp_cell (gA G ty) A) ∧ gB G ≤ a ∧ ty ∈ xTys
  | (false, .inl (ty, A)) => ∃ cell : Cell, H[a]? = some cell ∧ U.isArrayOf cell ty ∧ cell.vm ≠ .unknown ∧ A.1 ≤ cell.slots.size ∧ cell.slots.size.toInt32 = Int32.ofNat A.1 ∧ (∀ j : Nat, j < A.1 → cell.slots[j]? = some (xval A j)) ∧ (ty = .object "java/lang/Object" → cell.cls = gA G ty)
  | (w, .inr (ci, fs)) => ∃ (r : vw_C) (cell : Cell), xClS[ci]? = some r ∧ H[a]? = some cell ∧ cell.cls = gC G ci ∧ cell.vm.isStatics = false ∧ cell.vm ≠ .unknown ∧ (w = true → cell.vm = .none ∧ gB G ≤ a ∧ fs.length = r.2.2) ∧ ∀ k : Nat, k < fs.length → k < r.2.2 → cell.slots[gI G ci k]? = some (vp_V fs k)
theorem xat.lt {G : xG} {U : State} {a : Nat} {c : Bool × xC} {H : Heap} (h : xat G U a c H) : a < H.size := by
  obtain ⟨w, ⟨ty, A⟩ | ⟨ci, fs⟩⟩ := c
  · cases w
    · obtain ⟨cell, h1, -⟩ := h
      exact (Array.getElem?_eq_some_iff.mp h1).1
    · exact (Array.getElem?_eq_some_iff.mp h.1).1
  · cases w <;> (obtain ⟨r, cell, -, h1, -⟩ := h; exact (Array.getElem?_eq_some_iff.mp h1).1)
theorem xat.kept {G : xG} {U : State} {a : Nat} {c : Bool × xC} {H H1 : Heap} (h : xat G U a c H) (e : H1[a]? = H[a]?) : xat G U a c H1 := by
  obtain ⟨w, ⟨ty, A⟩ | ⟨ci, fs⟩⟩ := c
  · cases w
    · obtain ⟨cell, h1, h2⟩ := h
      exact ⟨cell, e.trans h1, h2⟩
    · exact ⟨e.trans h.1, h.2⟩
  · cases w <;> (obtain ⟨r, cell, h0, h1, h2⟩ := h; exact ⟨r, cell, h0, e.trans h1, h2⟩)
theorem xat.moved {G : xG} {u U : State} {a : Nat} {c : Bool × xC} {H : Heap} (hvm : u.vm.Alike U.vm) (h : xat G u a c H) : xat G U a c H := by
  obtain ⟨w, ⟨ty, A⟩ | ⟨ci, fs⟩⟩ := c
  · cases w
    · obtain ⟨cell, h1, h2, h3⟩ := h
      exact ⟨cell, h1, State.isArrayOf_alike hvm h2, h3⟩
    · exact h
  · cases w <;> exact h
theorem aoa_moved {u U : State} (hvm : u.vm.Alike U.vm) (h : (Cond.arrayOver (.array .int)).before #[] u = true) : (Cond.arrayOver (.array .int)).before #[] U = true := by
  obtain ⟨comp, c, k, h1, h2, h3, h4, h5⟩ := arrayOverA_spec h
  obtain ⟨k', hk', he⟩ := hvm.2.2 _ _ h3
  have hi : (U.vm.classes.findIdx? fun (x : Class) => match x.kind with | .array component _ => component == comp | _ => false) = some c := by
    have e0 : U.vm.bare = u.vm.bare := by first | exact hvm.bare_eq | exact hvm.bare_eq.symm
    have h7 := va_idx_bare U.vm comp
    rw [e0] at h7
    exact h7.symm.trans ((va_idx_bare u.vm comp).trans h2)
  have hkind : k'.kind = .array comp (.array .int) := by rw [he]; exact h4
  have f1 : U.vm.findClass (FieldType.array .int).toString = some comp := by rw [hvm.findClass]; exact h1
  have f2 : U.vm.findClass ("[" ++ (FieldType.array .int).toString) = some c := by rw [hvm.findClass]; exact h5
  unfold Cond.before Cond.holds
  simp only [Cond.value]
  rw [f1, Option.bind_some]
  refine (congrArg (fun o : Option Nat => (o.bind (fun c => (U.vm.classes[c]?).map fun (k : Class) => match k.kind with | .array _ ty => decide (ty = FieldType.array .int) && decide (U.vm.findClass ("[" ++ (FieldType.array .int).toString) = some c) | _ => false) == some true)) hi).trans ?_
  simp [hk', hkind, f2]
/-- what an interface's name finds elsewhere -/
theorem xface_rides {a a' : Array Value} {s U : State} (hal : s.vm.Alike U.vm) {ref owner name desc : String} (h : (Cond.interfaceMethod ref owner name desc).before a s = true) : (Cond.interfaceMethod ref owner name desc).before a' U = true := by
  have h1 : (Cond.interfaceMethod ref owner name desc).before a' (s.setVm U.vm) = (Cond.interfaceMethod ref owner name desc).before a s := by
    simp only [Cond.before, Cond.holds, Cond.value, State.vm_setVm, hal.findClass, State.methodFound?_setVm hal, State.methodNamed?_setVm hal, arm_isInterface_setVm hal]
  have h2 : (Cond.interfaceMethod ref owner name desc).before a' U = (Cond.interfaceMethod ref owner name desc).before a' (s.setVm U.vm) := rfl
  rw [h2, h1]
  exact h
/-- the words that don't ride in the lists -/
def xExt (w : Cond) : Bool := match w with
  | .fieldLinkNest .. => true
  | .methodLinkNest .. => true
  | .castable .. => true
  | .privateMethod _ => true
  | .declares _ => true
  | .publicMethod _ => true
  | .unhidden .. => true
  | .interfaceMethod .. => true
  | .arrayOver (.object _) => true
  | .arrayOver (.array .int) => true
  | _ => false
theorem xExt_warm {w : Cond} {s U : State} (hw : xExt w = true) (hW : s.WarmedH U.vm) (h : va_Nw w s) : va_Nw w U := by
  unfold xExt at hw
  split at hw
  · exact va_Nw.warmF hW h
  · exact va_Nw.warmM hW h
  · exact va_Nw.warmC hW h
  · exact Cond.privateMethod_warm hW h
  · exact va_Nw.warmD hW h
  · exact va_tabs rfl (rfl : (s.setVm U.vm).vm = U.vm) (by rw [Cond.publicMethod_setVm hW.alike]; exact h)
  · exact va_tabs rfl (rfl : (s.setVm U.vm).vm = U.vm) (by rw [Cond.unhidden_setVm hW.alike]; exact h)
  · exact xface_rides hW.alike h
  · exact va_AO.moved hW.alike h
  · exact aoa_moved hW.alike h
  · cases hw
theorem xExt_same {w : Cond} {s U : State} (hw : xExt w = true) (hv : s.vm = U.vm) (h : va_Nw w s) : va_Nw w U := by
  unfold xExt at hw
  split at hw
  · exact va_Nw.same rfl hv h
  · exact va_Nw.same rfl hv h
  · exact va_Nw.same rfl hv h
  · exact va_Nw.same rfl hv h
  · exact va_Nw.same rfl hv h
  · exact va_Nw.same rfl hv h
  · exact va_Nw.same rfl hv h
  · exact va_Nw.same rfl hv h
  · exact va_AO.moved (hv ▸ Vm.Alike.refl _) h
  · exact aoa_moved (hv ▸ Vm.Alike.refl _) h
  · cases hw
/-- what the tables say: classes, array classes, the words that don't ride, interfaces' entries, strings, class objects -/
def xK (G : xG) (U : State) : Prop :=
  (∀ (ci : Nat) (r : vw_C), xCl[ci]? = some r → u_Kn U r.1 r.2.1 r.2.2 (gC G ci) (gI G ci)) ∧
  (∀ ty : FieldType, ty ∈ xTys → ArrOfT U (gA G ty) ty ∧ va_RA U (gA G ty) ty) ∧
  (∀ w : Cond, w ∈ lw_tbl → xExt w = true → va_Nw w U) ∧
  (∀ q : String × MethodName × MethodName, q ∈ xFws → va_Fw q.1 q.2.1 q.2.2 U) ∧
  (U.vm.findClass "java/lang/String" = some (gC G 15) ∧ ∀ k : Nat, k < 2 → ∃ (cf : ClassId) (kf : Class) (fi : Nat) (f : Field), U.fieldFound? "java/lang/String" (TStr k).2.1 (TStr k).2.2.1 = some (cf, kf, fi, f) ∧ f.isStatic = false ∧ f.slot = gI G 15 k) ∧
  (∀ (i : Nat) (q : Nat × String), xStrs[i]? = some q → vk_R "MouldVotes$Reader" q.1 q.2 (gT G i) U) ∧
  ((∀ (i : Nat) (C : String), xMis[i]? = some C → va_Mi C (gM G i) U) ∧ va_Dc U ∧ va_Nc "java/lang/IllegalArgumentException" "java/util/NoSuchElementException" U)
/-- what a static holds -/
def xSv (G : xG) (i : Nat) : Value := match i with
  | 3 => .int 127
  | 4 => .int 1
  | i => va_rf (gS G i)
theorem xcl_up {ci : Nat} {r : vw_C} (h : xCl[ci]? = some r) : xClS[ci]? = some r := by
  unfold xClS
  rw [List.getElem?_append_left (List.getElem?_eq_some_iff.mp h).1]
  exact h
/-- statics that nobody writes: what each holds; and of the two that a thrown thing asks for, where they lie -/
def xZs (G : xG) (i : Nat) (q : String × String × String) (U : State) (H : Heap) : Prop := va_Z q.1 q.2.1 q.2.2 (xSv G i) (xAf G) U H ∧ (5 < i → vx_L q.1 q.2.1 q.2.2 (xAf G) U H)
theorem xZs.moved {G : xG} {i : Nat} {q : String × String × String} {u U : State} {H : Heap} (hvm : u.vm.Alike U.vm) (h : xZs G i q u H) : xZs G i q U H := ⟨va_Z.moved hvm h.1, fun z => vx_L.moved hvm (h.2 z)⟩
theorem xZs.kept {G : xG} {i : Nat} {q : String × String × String} {U : State} {H H1 : Heap} (h : xZs G i q U H) (hq : ∀ a : Nat, a < H.size → ¬ xAf G a → H1[a]? = H[a]?) : xZs G i q U H1 := ⟨va_Z.kept h.1 hq, fun z => vx_L.kept (h.2 z) hq⟩
def xSt (G : xG) (U : State) (H : Heap) : Prop := ∀ (i : Nat) (q : String × String × String), xSts[i]? = some q → xZs G i q U H
theorem xFws_ok : ∀ q : String × MethodName × MethodName, q ∈ xFws → q.2.1.cls ≠ "java/lang/invoke/MethodHandle" ∧ q.2.1.cls ≠ "java/lang/invoke/VarHandle" := by decide +kernel
/-- each class' name finds it -/
theorem xfind {G : xG} {U : State} {ci : Nat} {r : vw_C} (hK : xK G U) (hr : xClS[ci]? = some r) : U.vm.findClass r.1 = some (gC G ci) := by
  by_cases hl : ci < xCl.length
  · have h1 : xCl[ci]? = some r := by unfold xClS at hr; rw [List.getElem?_append_left hl] at hr; exact hr
    exact (hK.1 ci r h1).2.1
  · unfold xClS at hr
    rw [List.getElem?_append_right (by omega)] at hr
    have hz : ci - xCl.length < 1 := (List.getElem?_eq_some_iff.mp hr).1
    have hc : ci = 15 := by have : xCl.length = 15 := rfl; omega
    subst hc
    cases hr
    exact hK.2.2.2.2.1.1
theorem xK.warm {G : xG} {s U : State} (hW : s.WarmedH U.vm) (h : xK G s) : xK G U :=
  ⟨fun ci r hr => u_Kn_moved hW.alike (h.1 ci r hr), fun ty ht => ⟨arrOfT_moved hW.alike (h.2.1 ty ht).1, (h.2.1 ty ht).2.moved hW.alike⟩, fun w hw he => xExt_warm he hW (h.2.2.1 w hw he), fun q hq => va_Fw.moved (xFws_ok q hq) hW.alike (h.2.2.2.1 q hq), ⟨by rw [hW.alike.findClass]; exact h.2.2.2.2.1.1, fun k hk => by
    obtain ⟨cf, kf, fi, f, h1, h2, h3⟩ := h.2.2.2.2.1.2 k hk
    obtain ⟨k', hi', -⟩ := State.fieldFound?_setVm hW.alike h1
    exact ⟨cf, k', fi, f, hi', h2, h3⟩⟩, fun i q hq => (h.2.2.2.2.2.1 i q hq).warm hW, fun i C hi => (h.2.2.2.2.2.2.1 i C hi).moved hW.alike, h.2.2.2.2.2.2.2.1.moved hW.alike, h.2.2.2.2.2.2.2.2.moved hW.alike⟩
theorem xK.same {G : xG} {s U : State} (hv : s.vm = U.vm) (h : xK G s) : xK G U := by
  have ha : s.vm.Alike U.vm := hv ▸ Vm.Alike.refl _
  exact ⟨fun ci r hr => u_Kn_moved ha (h.1 ci r hr), fun ty ht => ⟨arrOfT_moved ha (h.2.1 ty ht).1, (h.2.1 ty ht).2.moved ha⟩, fun w hw he => xExt_same he hv (h.2.2.1 w hw he), fun q hq => va_Fw.moved (xFws_ok q hq) ha (h.2.2.2.1 q hq), ⟨by rw [ha.findClass]; exact h.2.2.2.2.1.1, fun k hk => by
    obtain ⟨cf, kf, fi, f, h1, h2, h3⟩ := h.2.2.2.2.1.2 k hk
    obtain ⟨k', hi', -⟩ := State.fieldFound?_setVm ha h1
    exact ⟨cf, k', fi, f, hi', h2, h3⟩⟩, fun i q hq => (h.2.2.2.2.2.1 i q hq).same hv.symm, fun i C hi => (h.2.2.2.2.2.2.1 i C hi).moved ha, h.2.2.2.2.2.2.2.1.moved ha, h.2.2.2.2.2.2.2.2.moved ha⟩
/-- a world: the heap holds what the abstract one says -/
def xW (G : xG) (T : xF) (U : State) : Prop := U.heap.size = T.2.1 ∧ (∀ (a : Nat) (c : Bool × xC), ol (gR G) T.1 a = some c → xat G U a c U.heap) ∧ xK G U ∧ xSt G U U.heap ∧ gB G ≤ T.2.1
theorem xW.same {G : xG} {T : xF} {s U : State} (hv : s.vm = U.vm) (hh : s.heap = U.heap) (h : xW G T s) : xW G T U := by
  have ha : s.vm.Alike U.vm := hv ▸ Vm.Alike.refl _
  obtain ⟨h1, h2, h3, h4, h5⟩ := h
  rw [hh] at h1 h2 h4
  exact ⟨h1, fun a c hc => (h2 a c hc).moved ha, h3.same hv, fun i q hq => xZs.moved ha (h4 i q hq), h5⟩
/-- how a method ends: it returns a value or nothing; or it throws a thing of a class -/
abbrev xO : Type := Option Value ⊕ (String × Nat)
def xle (T T' : xF) : Prop := T.2.1 ≤ T'.2.1 ∧ T.2.2 ≤ T'.2.2
theorem xle.rf {T : xF} : xle T T := ⟨Nat.le_refl _, Nat.le_refl _⟩
theorem xle.tr {A B C : xF} (h : xle A B) (g : xle B C) : xle A C := ⟨Nat.le_trans h.1 g.1, Nat.le_trans h.2 g.2⟩
/-- the world grows by new cells alone -/
def xdm (T T' : xF) : Prop := ∀ a : Nat, T'.1 a ≠ none → T.1 a ≠ none ∨ T.2.1 ≤ a
theorem xdm.rf {T : xF} : xdm T T := fun _ h => Or.inl h
theorem xdm.tr {A B C : xF} (hn : A.2.1 ≤ B.2.1) (h : xdm A B) (g : xdm B C) : xdm A C := fun a ha => (g a ha).elim (h a) (fun q => Or.inr (Nat.le_trans hn q))
def xQa (G : xG) (T0 T1 : xF) (o : xO) (mc ms : Nat) : Array Value → State → Outcome → State → Prop := fun _ st oc t => match o with
  | .inl v => (oc = .returned v ∧ (xW G T1 t ∧ xdm T0 T1) ∧ va_F (xAf G) st t) ∧ ∃ L, FrameEnd st oc t L mc ms ∧ ∀ q ∈ L, xAf G q.base
  | .inr x => ∃ (ce : Cell) (L : List Loc), oc = .threw x.2 ∧ ((xW G T1 t ∧ xdm T0 T1) ∧ va_F (xAf G) st t) ∧ t.heap[x.2]? = some ce ∧ ce.vm = .none ∧ st.vm.findClass x.1 = some ce.cls ∧ st.WarmedH t.vm ∧ st.sameButNew ({ t with vm := st.vm } : State) L mc ms ∧ ∀ z ∈ L, xAf G z.base
/-- a method: its name, code, locals, answer's type, handlers -/
abbrev xM : Type := MethodName × ByteArray × Nat × Option FieldType × List (Nat × Nat × Nat × Nat)
def xhd (M : xM) : Cond := match M.2.2.2.2 with
  | [] => Cond.code M.1 M.2.1 M.2.2.1 M.2.2.2.1
  | hh => Cond.codeWith M.1 M.2.1 M.2.2.1 M.2.2.2.1 hh
abbrev xws (M : xM) : List Cond := xhd M :: lw_all
/-- room: D calls deep, and what is made between two worlds -/
abbrev xrm (D : Nat) (T0 T1 : xF) : Room := { frames := D, cells := T1.2.1 - T0.2.1, slots := T1.2.2 - T0.2.2, locals := 64 * D }
/-- THE CONTRACT: from the world T, with these arguments, M ends so, in the world T1 -/
def Ct (G : xG) (M : xM) (D : Nat) (T : xF) (av : List Value) (o : xO) (T1 : xF) : Prop :=
  xle T T1 → ∀ l : Launch, l.flags = flags0 → MetFree l M.1 (headSpec (xws M) (xrm D T T1)) (va_Pc av (xW G T)) (fun _ _ _ _ _ => True) (xQa G T T1 o (T1.2.1 - T.2.1) (T1.2.2 - T.2.2))
theorem xblind {G : xG} {T : xF} {av : List Value} : FrameBlind (va_Pc av (xW G T)) := fun a U g mk q => ⟨q.1, xW.same (s := U) (U := U.calling g mk a) rfl rfl q.2⟩
/-- a run's fixed parts: the method, its room, its first world, its end, its last world -/
abbrev xR : Type := xM × Room × xF × xO × xF
def xCx (G : xG) (Y : xR) (p : Program) (l : Launch) (s : State) (m : MethodId) (args : Array Value) (meth : Method) (c : Code) : Prop :=
  l.flags = flags0 ∧ p.tables.exec = Jvm.exec ∧ c.code = Y.1.2.1 ∧ meth.sig.returnType = Y.1.2.2.2.1 ∧ meth.locks = false ∧ c.maxLocals = Y.1.2.2.1 ∧ s.vm.findClass Y.1.1.cls = some m.cls ∧ meth.name = Y.1.1.name ∧ (∀ w ∈ lw_all, w.before args s = true) ∧ xK G s ∧ xSt G s s.heap ∧ s.heap.size = Y.2.2.1.2.1 ∧ gB G ≤ Y.2.2.1.2.1 ∧ c.exceptionTable.toList = tableOf Y.1.2.2.2.2
def xDy (G : xG) (Y : xR) (T : xF) (s : State) (H : Heap) (locs : List Loc) : Prop :=
  H.size = T.2.1 ∧ (∀ (a : Nat) (c : Bool × xC), ol (gR G) T.1 a = some c → xat G s a c H) ∧ va_S (xAf G) s.heap H locs ∧ xle Y.2.2.1 T ∧ xle T Y.2.2.2.2 ∧ xdm Y.2.2.1 T ∧ (Y.2.2.2.2.2.1 - Y.2.2.1.2.1 ≤ Y.2.1.cells ∧ Y.2.2.2.2.2.2 - Y.2.2.1.2.2 ≤ Y.2.1.slots)
def xZ (G : xG) (Y : xR) (below : List Frame) (a : Array Value) (s : State) : State → Prop := fun t =>
  ∃ oc, t.status = .running ∧ Ended t below oc ∧ xQa G Y.2.2.1 Y.2.2.2.2 Y.2.2.2.1 (Y.2.2.2.2.2.1 - Y.2.2.1.2.1) (Y.2.2.2.2.2.2 - Y.2.2.1.2.2) a s oc t
/-- from here on (place, locals, stack, world) the method ends as Y says -/
def Xr (G : xG) (Y : xR) (pc : Nat) (L : List (Nat × Value)) (st : List Value) (T : xF) : Prop :=
  ∀ (p : Program) (l : Launch) (e : Env) (s : State) (m : MethodId) (args : Array Value) (below : List Frame) (meth : Method) (c : Code) (H : Heap) (locs : List Loc) (ls : Array Slot),
    xCx G Y p l s m args meth c → xDy G Y T s H locs → lv_has ls Y.1.2.2.1 L →
    W p l e Y.2.1 s m args below meth c H locs (T.2.1 - Y.2.2.1.2.1) (T.2.2 - Y.2.2.1.2.2) (xZ G Y below args s) (F0 m pc ls st)
theorem W.mq {p : Program} {l : Launch} {e : Env} {R : Room} {s : State} {m : MethodId} {args : Array Value} {below : List Frame} {meth : Method} {c : Code} {H : Heap} {locs : List Loc} {cells slots : Nat} {Q Q' : State → Prop} {g : JFrame} (k : W p l e R s m args below meth c H locs cells slots Q g) (h : ∀ t, Q t → Q' t) : W p l e R s m args below meth c H locs cells slots Q' g := fun T hT X => by
  obtain ⟨t, a, b⟩ := k T hT X
  exact ⟨t, a, h t b⟩
theorem tableOf_nil : tableOf [] = [] := rfl
/-- a contract, out of the run from the entry -/
theorem Ct.ofF {G : xG} {M : xM} {D : Nat} {T : xF} {av : List Value} {o : xO} {T1 : xF} (hy : plainFor M.1 = true) (hh : M.2.2.2.2 = []) (hn : (lg_sl av).length ≤ M.2.2.1) (h : Xr G (M, xrm D T T1, T, o, T1) 0 (lv_args 0 av) [] T) : Ct G M D T av o T1 := by
  intro hle l hfl
  obtain ⟨y, cc, nL, ret, hhs⟩ := M
  dsimp only at hy hh hn
  subst hh
  refine MetFree.of_bodySF (code := cc) (maxLocals := nL) (ret := ret) hy ?_ ?_
  · intro args s m hp hnm
    obtain ⟨meth, c, h1, h2, h3, h4, h5, h6, -, -⟩ := Cond.code_spec hnm (atoms_spec (ws := xws (y, cc, nL, ret, [])) hp _ List.mem_cons_self)
    exact ⟨meth, c, h1, h2, h3, h4, h5, h6⟩
  · intro p e s m args below meth c s₁ B hml hP _
    obtain ⟨rfl, hw⟩ := hP
    have hh0 : s₁.heap = s.heap := by rw [B.state]; rfl
    have ht : c.exceptionTable.toList = [] := by
      obtain ⟨meth9, c9, h1, h2, -, -, -, -, h7, -⟩ := Cond.code_spec B.named (atoms_spec (ws := xws (y, cc, nL, ret, [])) B.pre _ List.mem_cons_self)
      cases Option.some.inj (h1.symm.trans B.method)
      cases Option.some.inj (h2.symm.trans (Stand.of_body B).code)
      rw [Array.isEmpty_iff.mp h7]
    have hts : ∀ w ∈ lw_all, w.before av.toArray s = true := fun w hw' => atoms_spec (ws := xws (y, cc, nL, ret, [])) B.pre w (List.mem_cons_of_mem _ hw')
    have hl := lv_entry av (n := nL) hn
    have K := h p l e s m av.toArray below meth c s.heap [] _ ⟨hfl, B.exec, B.bytes, B.returns, B.notSynchronized, hml, findClass_of_methodNamed B.named, (name_of_methodNamed B.named B.method).1, hts, hw.2.2.1, hw.2.2.2.1, hw.1, hw.2.2.2.2, ht⟩ ⟨hw.1, hw.2.1, va_S.rf, xle.rf, hle, xdm.rf, Nat.le_refl _, Nat.le_refl _⟩ hl
    rw [← lg_entry_eq] at K
    dsimp only at K
    rw [Nat.sub_self, Nat.sub_self] at K
    obtain ⟨t, a1, oc, b1, b2, b3⟩ := K s₁ hh0 (Stand.of_body B)
    exact ⟨t, oc, a1, b1, b2, b3⟩
theorem Ct.of {G : xG} {M : xM} {D : Nat} {T : xF} {av : List Value} {o : xO} {T1 : xF} (hy : plainName M.1.cls = true) (hh : M.2.2.2.2 = []) (hn : (lg_sl av).length ≤ M.2.2.1) (h : Xr G (M, xrm D T T1, T, o, T1) 0 (lv_args 0 av) [] T) : Ct G M D T av o T1 := Ct.ofF (plainFor_of_name hy) hh hn h
section X1R
variable {G : xG} {Y : xR} {pc : Nat} {L : List (Nat × Value)} {rest : List Value} {T : xF}
theorem X.iconst {n : Int} {v : Int32} (d : decode Y.1.2.1 pc = .ok (.iconst n, 1)) (hv : Int32.ofInt n = v) (k : Xr G Y (pc + 1) L (.int v :: rest) T) : Xr G Y (pc) L (rest) T := fun p l e s m args below meth c H locs ls hc hd hl => lv_iconst hc.2.1 hc.2.2.1 d hv (k p l e s m args below meth c H locs ls hc hd hl)
theorem X.bipush {n : Int} {v : Int32} (d : decode Y.1.2.1 pc = .ok (.bipush n, 2)) (hv : (Int8.ofInt n).toInt32 = v) (k : Xr G Y (pc + 2) L (.int v :: rest) T) : Xr G Y (pc) L (rest) T := fun p l e s m args below meth c H locs ls hc hd hl => lv_bipush hc.2.1 hc.2.2.1 d hv (k p l e s m args below meth c H locs ls hc hd hl)
theorem X.sipush {n : Int} {v : Int32} (d : decode Y.1.2.1 pc = .ok (.sipush n, 3)) (hv : (Int16.ofInt n).toInt32 = v) (k : Xr G Y (pc + 3) L (.int v :: rest) T) : Xr G Y (pc) L (rest) T := fun p l e s m args below meth c H locs ls hc hd hl => lv_sipush hc.2.1 hc.2.2.1 d hv (k p l e s m args below meth c H locs ls hc hd hl)
theorem X.lconst {n : Fin 2} {v : Int64} (d : decode Y.1.2.1 pc = .ok (.lconst n, 1)) (hv : Int64.ofNat (n : Nat) = v) (k : Xr G Y (pc + 1) L (.long v :: rest) T) : Xr G Y (pc) L (rest) T := fun p l e s m args below meth c H locs ls hc hd hl => lv_lconst hc.2.1 hc.2.2.1 d hv (k p l e s m args below meth c H locs ls hc hd hl)
theorem X.null  (d : decode Y.1.2.1 pc = .ok (.aconst_null, 1))  (k : Xr G Y (pc + 1) L (.null :: rest) T) : Xr G Y (pc) L (rest) T := fun p l e s m args below meth c H locs ls hc hd hl => lv_null hc.2.1 hc.2.2.1 d  (k p l e s m args below meth c H locs ls hc hd hl)
theorem X.iload_n {k : Fin 4} {i : Nat} {x : Int32} (d : decode Y.1.2.1 pc = .ok (.iload_n k, 1)) (hi : (k : Nat) = i) (j : Nat) (hj : L[j]? = some (i, .int x)) (k : Xr G Y (pc + 1) L (.int x :: rest) T) : Xr G Y (pc) L (rest) T := fun p l e s m args below meth c H locs ls hc hd hl => lv_iload_n hc.2.1 hc.2.2.1 d hi (lv_at hl j hj) (k p l e s m args below meth c H locs ls hc hd hl)
theorem X.iload {i : Nat} {x : Int32} (d : decode Y.1.2.1 pc = .ok (.iload i, 2)) (j : Nat) (hj : L[j]? = some (i, .int x)) (k : Xr G Y (pc + 2) L (.int x :: rest) T) : Xr G Y (pc) L (rest) T := fun p l e s m args below meth c H locs ls hc hd hl => lv_iload hc.2.1 hc.2.2.1 d (lv_at hl j hj) (k p l e s m args below meth c H locs ls hc hd hl)
theorem X.lload_n {k : Fin 4} {i : Nat} {x : Int64} (d : decode Y.1.2.1 pc = .ok (.lload_n k, 1)) (hi : (k : Nat) = i) (j : Nat) (hj : L[j]? = some (i, .long x)) (k : Xr G Y (pc + 1) L (.long x :: rest) T) : Xr G Y (pc) L (rest) T := fun p l e s m args below meth c H locs ls hc hd hl => lv_lload_n hc.2.1 hc.2.2.1 d hi (lv_at hl j hj) (k p l e s m args below meth c H locs ls hc hd hl)
theorem X.lload {i : Nat} {x : Int64} (d : decode Y.1.2.1 pc = .ok (.lload i, 2)) (j : Nat) (hj : L[j]? = some (i, .long x)) (k : Xr G Y (pc + 2) L (.long x :: rest) T) : Xr G Y (pc) L (rest) T := fun p l e s m args below meth c H locs ls hc hd hl => lv_lload hc.2.1 hc.2.2.1 d (lv_at hl j hj) (k p l e s m args below meth c H locs ls hc hd hl)
theorem X.aload_n {k : Fin 4} {i : Nat} {x : Nat} (d : decode Y.1.2.1 pc = .ok (.aload_n k, 1)) (hi : (k : Nat) = i) (j : Nat) (hj : L[j]? = some (i, .ref x)) (k : Xr G Y (pc + 1) L (.ref x :: rest) T) : Xr G Y (pc) L (rest) T := fun p l e s m args below meth c H locs ls hc hd hl => lv_aload_n hc.2.1 hc.2.2.1 d hi (lv_at hl j hj) (k p l e s m args below meth c H locs ls hc hd hl)
theorem X.aload {i : Nat} {x : Nat} (d : decode Y.1.2.1 pc = .ok (.aload i, 2)) (j : Nat) (hj : L[j]? = some (i, .ref x)) (k : Xr G Y (pc + 2) L (.ref x :: rest) T) : Xr G Y (pc) L (rest) T := fun p l e s m args below meth c H locs ls hc hd hl => lv_aload hc.2.1 hc.2.2.1 d (lv_at hl j hj) (k p l e s m args below meth c H locs ls hc hd hl)
theorem X.aload_nN {k : Fin 4} {i : Nat} (d : decode Y.1.2.1 pc = .ok (.aload_n k, 1)) (hi : (k : Nat) = i) (j : Nat) (hj : L[j]? = some (i, .null)) (k : Xr G Y (pc + 1) L (.null :: rest) T) : Xr G Y (pc) L (rest) T := fun p l e s m args below meth c H locs ls hc hd hl => lv_aload_nN hc.2.1 hc.2.2.1 d hi (lv_at hl j hj) (k p l e s m args below meth c H locs ls hc hd hl)
theorem X.aloadN {i : Nat} (d : decode Y.1.2.1 pc = .ok (.aload i, 2)) (j : Nat) (hj : L[j]? = some (i, .null)) (k : Xr G Y (pc + 2) L (.null :: rest) T) : Xr G Y (pc) L (rest) T := fun p l e s m args below meth c H locs ls hc hd hl => lv_aloadN hc.2.1 hc.2.2.1 d (lv_at hl j hj) (k p l e s m args below meth c H locs ls hc hd hl)
theorem X.istore_n {k : Fin 4} {i : Nat} {x : Int32} {L' : List (Nat × Value)} (d : decode Y.1.2.1 pc = .ok (.istore_n k, 1)) (hi : (k : Nat) = i) (hn : i < Y.1.2.2.1) (hL : (i, Value.int x) :: L.filter (fun q => !(q.1 == i) && !(q.1 + 1 == i && q.2.category == 2)) = L') (k : Xr G Y (pc + 1) L' (rest) T) : Xr G Y (pc) L (.int x :: rest) T := fun p l e s m args below meth c H locs ls hc hd hl => lv_istore_n hc.2.1 hc.2.2.1 d hi hl hn hL (fun ls' hl' => k p l e s m args below meth c H locs ls' hc hd hl')
theorem X.istore {i : Nat} {x : Int32} {L' : List (Nat × Value)} (d : decode Y.1.2.1 pc = .ok (.istore i, 2)) (hn : i < Y.1.2.2.1) (hL : (i, Value.int x) :: L.filter (fun q => !(q.1 == i) && !(q.1 + 1 == i && q.2.category == 2)) = L') (k : Xr G Y (pc + 2) L' rest T) : Xr G Y (pc) L (.int x :: rest) T := fun p l e s m args below meth c H locs ls hc hd hl => lv_istore hc.2.1 hc.2.2.1 d hl hn hL (fun ls' hl' => k p l e s m args below meth c H locs ls' hc hd hl')
theorem X.lstore_n {k : Fin 4} {i : Nat} {x : Int64} {L' : List (Nat × Value)} (d : decode Y.1.2.1 pc = .ok (.lstore_n k, 1)) (hi : (k : Nat) = i) (hn : i + 1 < Y.1.2.2.1) (hL : (i, Value.long x) :: L.filter (fun q => !(q.1 == i) && (!(q.1 == i + 1) && !(q.1 + 1 == i && q.2.category == 2))) = L') (k : Xr G Y (pc + 1) L' (rest) T) : Xr G Y (pc) L (.long x :: rest) T := fun p l e s m args below meth c H locs ls hc hd hl => lv_lstore_n hc.2.1 hc.2.2.1 d hi hl hn hL (fun ls' hl' => k p l e s m args below meth c H locs ls' hc hd hl')
theorem X.lstore {i : Nat} {x : Int64} {L' : List (Nat × Value)} (d : decode Y.1.2.1 pc = .ok (.lstore i, 2)) (hn : i + 1 < Y.1.2.2.1) (hL : (i, Value.long x) :: L.filter (fun q => !(q.1 == i) && (!(q.1 == i + 1) && !(q.1 + 1 == i && q.2.category == 2))) = L') (k : Xr G Y (pc + 2) L' rest T) : Xr G Y (pc) L (.long x :: rest) T := fun p l e s m args below meth c H locs ls hc hd hl => lv_lstore hc.2.1 hc.2.2.1 d hl hn hL (fun ls' hl' => k p l e s m args below meth c H locs ls' hc hd hl')
theorem X.astore_n {k : Fin 4} {i : Nat} {x : Nat} {L' : List (Nat × Value)} (d : decode Y.1.2.1 pc = .ok (.astore_n k, 1)) (hi : (k : Nat) = i) (hn : i < Y.1.2.2.1) (hL : (i, Value.ref x) :: L.filter (fun q => !(q.1 == i) && !(q.1 + 1 == i && q.2.category == 2)) = L') (k : Xr G Y (pc + 1) L' (rest) T) : Xr G Y (pc) L (.ref x :: rest) T := fun p l e s m args below meth c H locs ls hc hd hl => lv_astore_n hc.2.1 hc.2.2.1 d hi hl hn hL (fun ls' hl' => k p l e s m args below meth c H locs ls' hc hd hl')
theorem X.astore {i : Nat} {x : Nat} {L' : List (Nat × Value)} (d : decode Y.1.2.1 pc = .ok (.astore i, 2)) (hn : i < Y.1.2.2.1) (hL : (i, Value.ref x) :: L.filter (fun q => !(q.1 == i) && !(q.1 + 1 == i && q.2.category == 2)) = L') (k : Xr G Y (pc + 2) L' rest T) : Xr G Y (pc) L (.ref x :: rest) T := fun p l e s m args below meth c H locs ls hc hd hl => lv_astore hc.2.1 hc.2.2.1 d hl hn hL (fun ls' hl' => k p l e s m args below meth c H locs ls' hc hd hl')
theorem X.astore_nN {k : Fin 4} {i : Nat} {L' : List (Nat × Value)} (d : decode Y.1.2.1 pc = .ok (.astore_n k, 1)) (hi : (k : Nat) = i) (hn : i < Y.1.2.2.1) (hL : (i, Value.null) :: L.filter (fun q => !(q.1 == i) && !(q.1 + 1 == i && q.2.category == 2)) = L') (k : Xr G Y (pc + 1) L' rest T) : Xr G Y (pc) L (.null :: rest) T := fun p l e s m args below meth c H locs ls hc hd hl => lv_astore_nN hc.2.1 hc.2.2.1 d hi hl hn hL (fun ls' hl' => k p l e s m args below meth c H locs ls' hc hd hl')
theorem X.astoreN {i : Nat} {L' : List (Nat × Value)} (d : decode Y.1.2.1 pc = .ok (.astore i, 2)) (hn : i < Y.1.2.2.1) (hL : (i, Value.null) :: L.filter (fun q => !(q.1 == i) && !(q.1 + 1 == i && q.2.category == 2)) = L') (k : Xr G Y (pc + 2) L' rest T) : Xr G Y (pc) L (.null :: rest) T := fun p l e s m args below meth c H locs ls hc hd hl => lv_astoreN hc.2.1 hc.2.2.1 d hl hn hL (fun ls' hl' => k p l e s m args below meth c H locs ls' hc hd hl')
theorem X.iinc {i : Nat} {n : Int} {x v : Int32} {L' : List (Nat × Value)} (d : decode Y.1.2.1 pc = .ok (.iinc i n, 3)) (j : Nat) (hj : L[j]? = some (i, .int x)) (hv : x + Int32.ofInt n = v) (hn : i < Y.1.2.2.1) (hL : (i, Value.int v) :: L.filter (fun q => !(q.1 == i) && !(q.1 + 1 == i && q.2.category == 2)) = L') (k : Xr G Y (pc + 3) L' rest T) : Xr G Y (pc) L (rest) T := fun p l e s m args below meth c H locs ls hc hd hl => lv_iinc hc.2.1 hc.2.2.1 d hl hj hv hn hL (fun ls' hl' => k p l e s m args below meth c H locs ls' hc hd hl')
theorem X.iadd {x y : Int32} (d : decode Y.1.2.1 pc = .ok (.iadd, 1))  (k : Xr G Y (pc + 1) L (.int (x + y) :: rest) T) : Xr G Y (pc) L (.int y :: .int x :: rest) T := fun p l e s m args below meth c H locs ls hc hd hl => lv_iadd hc.2.1 hc.2.2.1 d  (k p l e s m args below meth c H locs ls hc hd hl)
theorem X.isub {x y : Int32} (d : decode Y.1.2.1 pc = .ok (.isub, 1))  (k : Xr G Y (pc + 1) L (.int (x - y) :: rest) T) : Xr G Y (pc) L (.int y :: .int x :: rest) T := fun p l e s m args below meth c H locs ls hc hd hl => lv_isub hc.2.1 hc.2.2.1 d  (k p l e s m args below meth c H locs ls hc hd hl)
theorem X.imul {x y : Int32} (d : decode Y.1.2.1 pc = .ok (.imul, 1))  (k : Xr G Y (pc + 1) L (.int (x * y) :: rest) T) : Xr G Y (pc) L (.int y :: .int x :: rest) T := fun p l e s m args below meth c H locs ls hc hd hl => lv_imul hc.2.1 hc.2.2.1 d  (k p l e s m args below meth c H locs ls hc hd hl)
theorem X.iand {x y : Int32} (d : decode Y.1.2.1 pc = .ok (.iand, 1))  (k : Xr G Y (pc + 1) L (.int (x &&& y) :: rest) T) : Xr G Y (pc) L (.int y :: .int x :: rest) T := fun p l e s m args below meth c H locs ls hc hd hl => lv_iand hc.2.1 hc.2.2.1 d  (k p l e s m args below meth c H locs ls hc hd hl)
theorem X.ior {x y : Int32} (d : decode Y.1.2.1 pc = .ok (.ior, 1))  (k : Xr G Y (pc + 1) L (.int (x ||| y) :: rest) T) : Xr G Y (pc) L (.int y :: .int x :: rest) T := fun p l e s m args below meth c H locs ls hc hd hl => lv_ior hc.2.1 hc.2.2.1 d  (k p l e s m args below meth c H locs ls hc hd hl)
theorem X.ixor {x y : Int32} (d : decode Y.1.2.1 pc = .ok (.ixor, 1))  (k : Xr G Y (pc + 1) L (.int (x ^^^ y) :: rest) T) : Xr G Y (pc) L (.int y :: .int x :: rest) T := fun p l e s m args below meth c H locs ls hc hd hl => lv_ixor hc.2.1 hc.2.2.1 d  (k p l e s m args below meth c H locs ls hc hd hl)
theorem X.ishl {x y : Int32} (d : decode Y.1.2.1 pc = .ok (.ishl, 1))  (k : Xr G Y (pc + 1) L (.int (x <<< (y &&& 31)) :: rest) T) : Xr G Y (pc) L (.int y :: .int x :: rest) T := fun p l e s m args below meth c H locs ls hc hd hl => lv_ishl hc.2.1 hc.2.2.1 d  (k p l e s m args below meth c H locs ls hc hd hl)
theorem X.ishr {x y : Int32} (d : decode Y.1.2.1 pc = .ok (.ishr, 1))  (k : Xr G Y (pc + 1) L (.int (x >>> (y &&& 31)) :: rest) T) : Xr G Y (pc) L (.int y :: .int x :: rest) T := fun p l e s m args below meth c H locs ls hc hd hl => lv_ishr hc.2.1 hc.2.2.1 d  (k p l e s m args below meth c H locs ls hc hd hl)
theorem X.idiv {x y : Int32} (d : decode Y.1.2.1 pc = .ok (.idiv, 1)) (hne : ¬ y = 0) (k : Xr G Y (pc + 1) L (.int (x / y) :: rest) T) : Xr G Y (pc) L (.int y :: .int x :: rest) T := fun p l e s m args below meth c H locs ls hc hd hl => lv_idiv hc.2.1 hc.2.2.1 d hne (k p l e s m args below meth c H locs ls hc hd hl)
theorem X.irem {x y : Int32} (d : decode Y.1.2.1 pc = .ok (.irem, 1)) (hne : ¬ y = 0) (k : Xr G Y (pc + 1) L (.int (x - x / y * y) :: rest) T) : Xr G Y (pc) L (.int y :: .int x :: rest) T := fun p l e s m args below meth c H locs ls hc hd hl => lv_irem hc.2.1 hc.2.2.1 d hne (k p l e s m args below meth c H locs ls hc hd hl)
theorem X.iushr {x y v : Int32} (d : decode Y.1.2.1 pc = .ok (.iushr, 1)) (hv : (x.toUInt32 >>> (y.toUInt32 &&& Int32.toUInt32 31)).toInt32 = v) (k : Xr G Y (pc + 1) L (.int v :: rest) T) : Xr G Y (pc) L (.int y :: .int x :: rest) T := fun p l e s m args below meth c H locs ls hc hd hl => lv_iushr hc.2.1 hc.2.2.1 d hv (k p l e s m args below meth c H locs ls hc hd hl)
theorem X.ineg {x : Int32} (d : decode Y.1.2.1 pc = .ok (.ineg, 1))  (k : Xr G Y (pc + 1) L (.int (-x) :: rest) T) : Xr G Y (pc) L (.int x :: rest) T := fun p l e s m args below meth c H locs ls hc hd hl => lv_ineg hc.2.1 hc.2.2.1 d  (k p l e s m args below meth c H locs ls hc hd hl)
theorem X.ladd {x y : Int64} (d : decode Y.1.2.1 pc = .ok (.ladd, 1))  (k : Xr G Y (pc + 1) L (.long (x + y) :: rest) T) : Xr G Y (pc) L (.long y :: .long x :: rest) T := fun p l e s m args below meth c H locs ls hc hd hl => lv_ladd hc.2.1 hc.2.2.1 d  (k p l e s m args below meth c H locs ls hc hd hl)
theorem X.lsub {x y : Int64} (d : decode Y.1.2.1 pc = .ok (.lsub, 1))  (k : Xr G Y (pc + 1) L (.long (x - y) :: rest) T) : Xr G Y (pc) L (.long y :: .long x :: rest) T := fun p l e s m args below meth c H locs ls hc hd hl => lv_lsub hc.2.1 hc.2.2.1 d  (k p l e s m args below meth c H locs ls hc hd hl)
theorem X.lmul {x y : Int64} (d : decode Y.1.2.1 pc = .ok (.lmul, 1))  (k : Xr G Y (pc + 1) L (.long (x * y) :: rest) T) : Xr G Y (pc) L (.long y :: .long x :: rest) T := fun p l e s m args below meth c H locs ls hc hd hl => lv_lmul hc.2.1 hc.2.2.1 d  (k p l e s m args below meth c H locs ls hc hd hl)
theorem X.land {x y : Int64} (d : decode Y.1.2.1 pc = .ok (.land, 1))  (k : Xr G Y (pc + 1) L (.long (x &&& y) :: rest) T) : Xr G Y (pc) L (.long y :: .long x :: rest) T := fun p l e s m args below meth c H locs ls hc hd hl => lv_land hc.2.1 hc.2.2.1 d  (k p l e s m args below meth c H locs ls hc hd hl)
theorem X.lor {x y : Int64} (d : decode Y.1.2.1 pc = .ok (.lor, 1))  (k : Xr G Y (pc + 1) L (.long (x ||| y) :: rest) T) : Xr G Y (pc) L (.long y :: .long x :: rest) T := fun p l e s m args below meth c H locs ls hc hd hl => lv_lor hc.2.1 hc.2.2.1 d  (k p l e s m args below meth c H locs ls hc hd hl)
theorem X.lshl {x v : Int64} {y : Int32} (d : decode Y.1.2.1 pc = .ok (.lshl, 1)) (hv : x <<< (y.toInt64 &&& 63) = v) (k : Xr G Y (pc + 1) L (.long v :: rest) T) : Xr G Y (pc) L (.int y :: .long x :: rest) T := fun p l e s m args below meth c H locs ls hc hd hl => lv_lshl hc.2.1 hc.2.2.1 d hv (k p l e s m args below meth c H locs ls hc hd hl)
theorem X.i2l {x : Int32} {v : Int64} (d : decode Y.1.2.1 pc = .ok (.i2l, 1)) (hv : x.toInt64 = v) (k : Xr G Y (pc + 1) L (.long v :: rest) T) : Xr G Y (pc) L (.int x :: rest) T := fun p l e s m args below meth c H locs ls hc hd hl => lv_i2l hc.2.1 hc.2.2.1 d hv (k p l e s m args below meth c H locs ls hc hd hl)
theorem X.l2i {x : Int64} {v : Int32} (d : decode Y.1.2.1 pc = .ok (.l2i, 1)) (hv : x.toInt32 = v) (k : Xr G Y (pc + 1) L (.int v :: rest) T) : Xr G Y (pc) L (.long x :: rest) T := fun p l e s m args below meth c H locs ls hc hd hl => lv_l2i hc.2.1 hc.2.2.1 d hv (k p l e s m args below meth c H locs ls hc hd hl)
theorem X.i2b {x v : Int32} (d : decode Y.1.2.1 pc = .ok (.i2b, 1)) (hv : x.toInt8.toInt32 = v) (k : Xr G Y (pc + 1) L (.int v :: rest) T) : Xr G Y (pc) L (.int x :: rest) T := fun p l e s m args below meth c H locs ls hc hd hl => lv_i2b hc.2.1 hc.2.2.1 d hv (k p l e s m args below meth c H locs ls hc hd hl)
theorem X.i2c {x v : Int32} (d : decode Y.1.2.1 pc = .ok (.i2c, 1)) (hv : (x.toUInt32 % 65536).toInt32 = v) (k : Xr G Y (pc + 1) L (.int v :: rest) T) : Xr G Y (pc) L (.int x :: rest) T := fun p l e s m args below meth c H locs ls hc hd hl => lv_i2c hc.2.1 hc.2.2.1 d hv (k p l e s m args below meth c H locs ls hc hd hl)
theorem X.lcmp {x y : Int64} (d : decode Y.1.2.1 pc = .ok (.lcmp, 1)) (k : Xr G Y (pc + 1) L (.int (lg_cmp x y) :: rest) T) : Xr G Y (pc) L (.long y :: .long x :: rest) T := fun p l e s m args below meth c H locs ls hc hd hl => W.lcmp hc.2.1 hc.2.2.1 d (k p l e s m args below meth c H locs ls hc hd hl)
theorem X.dup {va : Value} (d : decode Y.1.2.1 pc = .ok (.dup, 1)) (hva : va.category = 1) (k : Xr G Y (pc + 1) L (va :: va :: rest) T) : Xr G Y (pc) L (va :: rest) T := fun p l e s m args below meth c H locs ls hc hd hl => lv_dup hc.2.1 hc.2.2.1 d hva (k p l e s m args below meth c H locs ls hc hd hl)
theorem X.pop {va : Value} (d : decode Y.1.2.1 pc = .ok (.pop, 1)) (hva : va.category = 1) (k : Xr G Y (pc + 1) L (rest) T) : Xr G Y (pc) L (va :: rest) T := fun p l e s m args below meth c H locs ls hc hd hl => lv_pop hc.2.1 hc.2.2.1 d hva (k p l e s m args below meth c H locs ls hc hd hl)
theorem X.dup_x1 {va vb : Value} (d : decode Y.1.2.1 pc = .ok (.dup_x1, 1)) (hva : va.category = 1) (hvb : vb.category = 1) (k : Xr G Y (pc + 1) L (va :: vb :: va :: rest) T) : Xr G Y (pc) L (va :: vb :: rest) T := fun p l e s m args below meth c H locs ls hc hd hl => lv_dup_x1 hc.2.1 hc.2.2.1 d hva hvb (k p l e s m args below meth c H locs ls hc hd hl)
theorem X.dup_x2 {va vb vd : Value} (d : decode Y.1.2.1 pc = .ok (.dup_x2, 1)) (hva : va.category = 1) (hvb : vb.category = 1) (hvd : vd.category = 1) (k : Xr G Y (pc + 1) L (va :: vb :: vd :: va :: rest) T) : Xr G Y (pc) L (va :: vb :: vd :: rest) T := fun p l e s m args below meth c H locs ls hc hd hl => lv_dup_x2 hc.2.1 hc.2.2.1 d hva hvb hvd (k p l e s m args below meth c H locs ls hc hd hl)
theorem X.dup2_11 {va vb : Value} (d : decode Y.1.2.1 pc = .ok (.dup2, 1)) (hva : va.category = 1) (hvb : vb.category = 1) (k : Xr G Y (pc + 1) L (va :: vb :: va :: vb :: rest) T) : Xr G Y (pc) L (va :: vb :: rest) T := fun p l e s m args below meth c H locs ls hc hd hl => lv_dup2_11 hc.2.1 hc.2.2.1 d hva hvb (k p l e s m args below meth c H locs ls hc hd hl)
theorem X.dup2_2 {va : Value} (d : decode Y.1.2.1 pc = .ok (.dup2, 1)) (hva : va.category = 2) (k : Xr G Y (pc + 1) L (va :: va :: rest) T) : Xr G Y (pc) L (va :: rest) T := fun p l e s m args below meth c H locs ls hc hd hl => lv_dup2_2 hc.2.1 hc.2.2.1 d hva (k p l e s m args below meth c H locs ls hc hd hl)
theorem X.if_eq {x : Int32} {off : Int} {tgt : Nat} (d : decode Y.1.2.1 pc = .ok (.ifCond .eq off, 3)) (ht : (pc : Int) + off = (tgt : Int)) (kt : x = 0 → Xr G Y (tgt) L (rest) T) (kf : ¬ x = 0 → Xr G Y (pc + 3) L (rest) T) : Xr G Y (pc) L (.int x :: rest) T := fun p l e s m args below meth c H locs ls hc hd hl => lv_if_eq hc.2.1 hc.2.2.1 d ht (fun h => kt h p l e s m args below meth c H locs ls hc hd hl) (fun h => kf h p l e s m args below meth c H locs ls hc hd hl)
theorem X.icmp_eq {x y : Int32} {off : Int} {tgt : Nat} (d : decode Y.1.2.1 pc = .ok (.if_icmp .eq off, 3)) (ht : (pc : Int) + off = (tgt : Int)) (kt : x = y → Xr G Y (tgt) L (rest) T) (kf : ¬ x = y → Xr G Y (pc + 3) L (rest) T) : Xr G Y (pc) L (.int y :: .int x :: rest) T := fun p l e s m args below meth c H locs ls hc hd hl => lv_icmp_eq hc.2.1 hc.2.2.1 d ht (fun h => kt h p l e s m args below meth c H locs ls hc hd hl) (fun h => kf h p l e s m args below meth c H locs ls hc hd hl)
theorem X.if_ne {x : Int32} {off : Int} {tgt : Nat} (d : decode Y.1.2.1 pc = .ok (.ifCond .ne off, 3)) (ht : (pc : Int) + off = (tgt : Int)) (kt : ¬ x = 0 → Xr G Y (tgt) L (rest) T) (kf : x = 0 → Xr G Y (pc + 3) L (rest) T) : Xr G Y (pc) L (.int x :: rest) T := fun p l e s m args below meth c H locs ls hc hd hl => lv_if_ne hc.2.1 hc.2.2.1 d ht (fun h => kt h p l e s m args below meth c H locs ls hc hd hl) (fun h => kf h p l e s m args below meth c H locs ls hc hd hl)
theorem X.icmp_ne {x y : Int32} {off : Int} {tgt : Nat} (d : decode Y.1.2.1 pc = .ok (.if_icmp .ne off, 3)) (ht : (pc : Int) + off = (tgt : Int)) (kt : ¬ x = y → Xr G Y (tgt) L (rest) T) (kf : x = y → Xr G Y (pc + 3) L (rest) T) : Xr G Y (pc) L (.int y :: .int x :: rest) T := fun p l e s m args below meth c H locs ls hc hd hl => lv_icmp_ne hc.2.1 hc.2.2.1 d ht (fun h => kt h p l e s m args below meth c H locs ls hc hd hl) (fun h => kf h p l e s m args below meth c H locs ls hc hd hl)
theorem X.if_lt {x : Int32} {off : Int} {tgt : Nat} (d : decode Y.1.2.1 pc = .ok (.ifCond .lt off, 3)) (ht : (pc : Int) + off = (tgt : Int)) (kt : x < 0 → Xr G Y (tgt) L (rest) T) (kf : ¬ x < 0 → Xr G Y (pc + 3) L (rest) T) : Xr G Y (pc) L (.int x :: rest) T := fun p l e s m args below meth c H locs ls hc hd hl => lv_if_lt hc.2.1 hc.2.2.1 d ht (fun h => kt h p l e s m args below meth c H locs ls hc hd hl) (fun h => kf h p l e s m args below meth c H locs ls hc hd hl)
theorem X.icmp_lt {x y : Int32} {off : Int} {tgt : Nat} (d : decode Y.1.2.1 pc = .ok (.if_icmp .lt off, 3)) (ht : (pc : Int) + off = (tgt : Int)) (kt : x < y → Xr G Y (tgt) L (rest) T) (kf : ¬ x < y → Xr G Y (pc + 3) L (rest) T) : Xr G Y (pc) L (.int y :: .int x :: rest) T := fun p l e s m args below meth c H locs ls hc hd hl => lv_icmp_lt hc.2.1 hc.2.2.1 d ht (fun h => kt h p l e s m args below meth c H locs ls hc hd hl) (fun h => kf h p l e s m args below meth c H locs ls hc hd hl)
theorem X.if_ge {x : Int32} {off : Int} {tgt : Nat} (d : decode Y.1.2.1 pc = .ok (.ifCond .ge off, 3)) (ht : (pc : Int) + off = (tgt : Int)) (kt : 0 ≤ x → Xr G Y (tgt) L (rest) T) (kf : ¬ 0 ≤ x → Xr G Y (pc + 3) L (rest) T) : Xr G Y (pc) L (.int x :: rest) T := fun p l e s m args below meth c H locs ls hc hd hl => lv_if_ge hc.2.1 hc.2.2.1 d ht (fun h => kt h p l e s m args below meth c H locs ls hc hd hl) (fun h => kf h p l e s m args below meth c H locs ls hc hd hl)
theorem X.icmp_ge {x y : Int32} {off : Int} {tgt : Nat} (d : decode Y.1.2.1 pc = .ok (.if_icmp .ge off, 3)) (ht : (pc : Int) + off = (tgt : Int)) (kt : y ≤ x → Xr G Y (tgt) L (rest) T) (kf : ¬ y ≤ x → Xr G Y (pc + 3) L (rest) T) : Xr G Y (pc) L (.int y :: .int x :: rest) T := fun p l e s m args below meth c H locs ls hc hd hl => lv_icmp_ge hc.2.1 hc.2.2.1 d ht (fun h => kt h p l e s m args below meth c H locs ls hc hd hl) (fun h => kf h p l e s m args below meth c H locs ls hc hd hl)
theorem X.if_gt {x : Int32} {off : Int} {tgt : Nat} (d : decode Y.1.2.1 pc = .ok (.ifCond .gt off, 3)) (ht : (pc : Int) + off = (tgt : Int)) (kt : 0 < x → Xr G Y (tgt) L (rest) T) (kf : ¬ 0 < x → Xr G Y (pc + 3) L (rest) T) : Xr G Y (pc) L (.int x :: rest) T := fun p l e s m args below meth c H locs ls hc hd hl => lv_if_gt hc.2.1 hc.2.2.1 d ht (fun h => kt h p l e s m args below meth c H locs ls hc hd hl) (fun h => kf h p l e s m args below meth c H locs ls hc hd hl)
theorem X.icmp_gt {x y : Int32} {off : Int} {tgt : Nat} (d : decode Y.1.2.1 pc = .ok (.if_icmp .gt off, 3)) (ht : (pc : Int) + off = (tgt : Int)) (kt : y < x → Xr G Y (tgt) L (rest) T) (kf : ¬ y < x → Xr G Y (pc + 3) L (rest) T) : Xr G Y (pc) L (.int y :: .int x :: rest) T := fun p l e s m args below meth c H locs ls hc hd hl => lv_icmp_gt hc.2.1 hc.2.2.1 d ht (fun h => kt h p l e s m args below meth c H locs ls hc hd hl) (fun h => kf h p l e s m args below meth c H locs ls hc hd hl)
theorem X.if_le {x : Int32} {off : Int} {tgt : Nat} (d : decode Y.1.2.1 pc = .ok (.ifCond .le off, 3)) (ht : (pc : Int) + off = (tgt : Int)) (kt : x ≤ 0 → Xr G Y (tgt) L (rest) T) (kf : ¬ x ≤ 0 → Xr G Y (pc + 3) L (rest) T) : Xr G Y (pc) L (.int x :: rest) T := fun p l e s m args below meth c H locs ls hc hd hl => lv_if_le hc.2.1 hc.2.2.1 d ht (fun h => kt h p l e s m args below meth c H locs ls hc hd hl) (fun h => kf h p l e s m args below meth c H locs ls hc hd hl)
theorem X.icmp_le {x y : Int32} {off : Int} {tgt : Nat} (d : decode Y.1.2.1 pc = .ok (.if_icmp .le off, 3)) (ht : (pc : Int) + off = (tgt : Int)) (kt : x ≤ y → Xr G Y (tgt) L (rest) T) (kf : ¬ x ≤ y → Xr G Y (pc + 3) L (rest) T) : Xr G Y (pc) L (.int y :: .int x :: rest) T := fun p l e s m args below meth c H locs ls hc hd hl => lv_icmp_le hc.2.1 hc.2.2.1 d ht (fun h => kt h p l e s m args below meth c H locs ls hc hd hl) (fun h => kf h p l e s m args below meth c H locs ls hc hd hl)
theorem X.acmp_eq {rx ry : Option Nat} {off : Int} {tgt : Nat} (d : decode Y.1.2.1 pc = .ok (.if_acmp .eq off, 3)) (ht : (pc : Int) + off = (tgt : Int)) (kt : rx = ry → Xr G Y (tgt) L (rest) T) (kf : ¬ rx = ry → Xr G Y (pc + 3) L (rest) T) : Xr G Y (pc) L (va_rf ry :: va_rf rx :: rest) T := fun p l e s m args below meth c H locs ls hc hd hl => lv_acmp_eq hc.2.1 hc.2.2.1 d ht (fun h => kt h p l e s m args below meth c H locs ls hc hd hl) (fun h => kf h p l e s m args below meth c H locs ls hc hd hl)
theorem X.acmp_ne {rx ry : Option Nat} {off : Int} {tgt : Nat} (d : decode Y.1.2.1 pc = .ok (.if_acmp .ne off, 3)) (ht : (pc : Int) + off = (tgt : Int)) (kt : ¬ rx = ry → Xr G Y (tgt) L (rest) T) (kf : rx = ry → Xr G Y (pc + 3) L (rest) T) : Xr G Y (pc) L (va_rf ry :: va_rf rx :: rest) T := fun p l e s m args below meth c H locs ls hc hd hl => lv_acmp_ne hc.2.1 hc.2.2.1 d ht (fun h => kt h p l e s m args below meth c H locs ls hc hd hl) (fun h => kf h p l e s m args below meth c H locs ls hc hd hl)
theorem X.goto {off : Int} {tgt : Nat} (d : decode Y.1.2.1 pc = .ok (.goto off, 3)) (ht : (pc : Int) + off = (tgt : Int)) (k : Xr G Y (tgt) L (rest) T) : Xr G Y (pc) L (rest) T := fun p l e s m args below meth c H locs ls hc hd hl => lv_goto hc.2.1 hc.2.2.1 d ht (k p l e s m args below meth c H locs ls hc hd hl)
theorem X.ifnull {x : Nat} {off : Int} (d : decode Y.1.2.1 pc = .ok (.ifnull off, 3)) (k : Xr G Y (pc + 3) L (rest) T) : Xr G Y (pc) L (.ref x :: rest) T := fun p l e s m args below meth c H locs ls hc hd hl => lv_ifnull hc.2.1 hc.2.2.1 d (k p l e s m args below meth c H locs ls hc hd hl)
theorem X.ifnullN {off : Int} {tgt : Nat} (d : decode Y.1.2.1 pc = .ok (.ifnull off, 3)) (ht : (pc : Int) + off = (tgt : Int)) (k : Xr G Y (tgt) L (rest) T) : Xr G Y (pc) L (.null :: rest) T := fun p l e s m args below meth c H locs ls hc hd hl => lv_ifnullN hc.2.1 hc.2.2.1 d ht (k p l e s m args below meth c H locs ls hc hd hl)
theorem X.ifnonnull {x : Nat} {off : Int} {tgt : Nat} (d : decode Y.1.2.1 pc = .ok (.ifnonnull off, 3)) (ht : (pc : Int) + off = (tgt : Int)) (k : Xr G Y (tgt) L (rest) T) : Xr G Y (pc) L (.ref x :: rest) T := fun p l e s m args below meth c H locs ls hc hd hl => lv_ifnonnull hc.2.1 hc.2.2.1 d ht (k p l e s m args below meth c H locs ls hc hd hl)
theorem X.ifnonnullN {off : Int} (d : decode Y.1.2.1 pc = .ok (.ifnonnull off, 3)) (k : Xr G Y (pc + 3) L (rest) T) : Xr G Y (pc) L (.null :: rest) T := fun p l e s m args below meth c H locs ls hc hd hl => lv_ifnonnullN hc.2.1 hc.2.2.1 d (k p l e s m args below meth c H locs ls hc hd hl)
theorem X.lookup {dflt : Int} {ps : Array (Int × Int)} {len : Nat} {x : Int32} {off : Int} {tgt : Nat} (d : decode Y.1.2.1 pc = .ok (.lookupswitch dflt ps, len)) (hp : (ps.toList.zip (ps.toList.drop 1)).all (fun (a, next) => a.1 < next.1) = true) (ho : Op.lookupswitch.offset ps.toList dflt x.toInt = off) (ht : (pc : Int) + off = (tgt : Int)) (k : Xr G Y (tgt) L (rest) T) : Xr G Y (pc) L (.int x :: rest) T := fun p l e s m args below meth c H locs ls hc hd hl => lv_lookup hc.2.1 hc.2.2.1 d hp ho ht (k p l e s m args below meth c H locs ls hc hd hl)
theorem X.tableOut {dflt lo hi : Int} {offs : Array Int} {len : Nat} {x : Int32} {tgt : Nat} (d : decode Y.1.2.1 pc = .ok (.tableswitch dflt lo hi offs, len)) (h : x.toInt < lo ∨ hi < x.toInt) (ht : (pc : Int) + dflt = (tgt : Int)) (k : Xr G Y (tgt) L (rest) T) : Xr G Y (pc) L (.int x :: rest) T := fun p l e s m args below meth c H locs ls hc hd hl => lv_tableOut hc.2.1 hc.2.2.1 d h ht (k p l e s m args below meth c H locs ls hc hd hl)
theorem X.tableIn {dflt lo hi : Int} {offs : Array Int} {len : Nat} {x : Int32} {off : Int} {tgt : Nat} (d : decode Y.1.2.1 pc = .ok (.tableswitch dflt lo hi offs, len)) (h1 : ¬ x.toInt < lo) (h2 : ¬ hi < x.toInt) (ho : offs[(x.toInt - lo).toNat]? = some off) (ht : (pc : Int) + off = (tgt : Int)) (k : Xr G Y (tgt) L (rest) T) : Xr G Y (pc) L (.int x :: rest) T := fun p l e s m args below meth c H locs ls hc hd hl => lv_tableIn hc.2.1 hc.2.2.1 d h1 h2 ho ht (k p l e s m args below meth c H locs ls hc hd hl)
theorem X.sub (ks : List Nat) {L' : List (Nat × Value)} {st : List Value} (hL : lv_pick L ks = L') (k : Xr G Y pc L' st T) : Xr G Y pc L st T := fun p l e s m args below meth c H locs ls hc hd hl => k p l e s m args below meth c H locs ls hc hd (lv_sub hl ks hL)
theorem X.ldcI {index : Nat} {v : Int32} (d : decode Y.1.2.1 pc = .ok (.ldc index, 2)) (hw : Jvm.Cond.constant Y.1.1.cls index v ∈ lw_all) (k : Xr G Y (pc + 2) L (.int v :: rest) T) : Xr G Y (pc) L (rest) T := fun p l e s m args below meth c H locs ls hc hd hl => lv_ldc hc.2.1 hc.2.2.1 hc.2.2.2.2.2.2.1 (hc.2.2.2.2.2.2.2.2.1 _ hw) d (k p l e s m args below meth c H locs ls hc hd hl)
theorem X.ldcwI {index : Nat} {v : Int32} (d : decode Y.1.2.1 pc = .ok (.ldc_w index, 3)) (hw : Jvm.Cond.constant Y.1.1.cls index v ∈ lw_all) (k : Xr G Y (pc + 3) L (.int v :: rest) T) : Xr G Y (pc) L (rest) T := fun p l e s m args below meth c H locs ls hc hd hl => lv_ldcw hc.2.1 hc.2.2.1 hc.2.2.2.2.2.2.1 (hc.2.2.2.2.2.2.2.2.1 _ hw) d (k p l e s m args below meth c H locs ls hc hd hl)
theorem X.ldc2 {index : Nat} {v : Int64} (d : decode Y.1.2.1 pc = .ok (.ldc2_w index, 3)) (hw : Jvm.Cond.constantLong Y.1.1.cls index v ∈ lw_all) (k : Xr G Y (pc + 3) L (.long v :: rest) T) : Xr G Y (pc) L (rest) T := fun p l e s m args below meth c H locs ls hc hd hl => lv_ldc2 hc.2.1 hc.2.2.1 hc.2.2.2.2.2.2.1 (hc.2.2.2.2.2.2.2.2.1 _ hw) d (k p l e s m args below meth c H locs ls hc hd hl)
end X1R
