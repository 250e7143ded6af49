set_option maxRecDepth 100000
/-! LAYER X1: rows of the heap -/
def xset (h : xH) (a : Nat) (c : Bool × xC) : xH := fun b => if b = a then some c else h b
theorem xset_self {h : xH} {a : Nat} {c : Bool × xC} : xset h a c a = some c := if_pos rfl
theorem xset_ne {h : xH} {a b : Nat} {c : Bool × xC} (n : b ≠ a) : xset h a c b = h b := if_neg n
/-- an array's cell, old or ours -/
theorem xarr {G : xG} {U : State} {a : Nat} {w : Bool} {ty : FieldType} {A : vp_A} {H : Heap} (hK : xK G U) (h : xat G U a (w, .inl (ty, A)) H) : ∃ cell : Cell, H[a]? = some cell ∧ U.isArrayOf cell ty ∧ cell.vm ≠ .unknown ∧ A.1 ≤ cell.slots.size ∧ cell.slots.size.toInt32 = Int32.ofNat A.1 ∧ ∀ j : Nat, j < A.1 → cell.slots[j]? = some (xval A j) := by
  cases w
  · obtain ⟨cell, h1, h2, h3, h4, h5, h6, -⟩ := h
    exact ⟨cell, h1, h2, h3, h4, h5, h6⟩
  · obtain ⟨h1, h2, h3⟩ := h
    rw [xval_cell] at h1
    exact ⟨_, h1, (hK.2.1 ty h3).1 _ _, (fun q => by cases q), by rw [arrV_size]; exact Nat.le_refl _, by rw [arrV_size], fun j hj => arrV_read _ _ hj⟩
theorem xin {i : Int32} {n m : Nat} (h : vp_in i n) (hm : n ≤ m) : ¬ (i < 0 ∨ m ≤ i.toNatClampNeg) := fun q => h (q.elim Or.inl (fun z => Or.inr (Nat.le_trans hm z)))
theorem xin_lt {i : Int32} {n : Nat} (h : vp_in i n) : i.toNatClampNeg < n := Nat.not_le.mp fun q => h (Or.inr q)
/-- a class, its places in the list, its tables' words -/
def xCls (ci : Nat) (C : String) (T : u_T) (N : Nat) (ty : Nat → FieldType) : Prop := xCl[ci]? = some (C, T, N) ∧ (∀ w ∈ u_ws C T N, w ∈ lw_all) ∧ (∀ k, k < N → parseFieldDescriptor (T k).2.2.1 = some (ty k)) ∧ (∀ a, a < N → ∀ b, b < N → a ≠ b → (T a).2.1 ≠ (T b).2.1)
/-- a field's link in a class' file: its own, or a nest mate's; the field is the k-th of class ci -/
def xFldR (own : String) (index ci k : Nat) (ty : FieldType) (fin : Bool) : Prop := ∃ (C : String) (T : u_T) (N : Nat) (tyf : Nat → FieldType) (ref : String), xCls ci C T N tyf ∧ k < N ∧ (Cond.fieldLink own index ref (T k).2.1 (T k).2.2.1 ∈ lw_all ∨ ∃ host : String, Cond.fieldLinkNest own index ref (T k).2.1 (T k).2.2.1 host ∈ lw_tbl) ∧ ((T k).1 = ref ∨ Cond.sameField ref (T k).1 (T k).2.1 (T k).2.2.1 ∈ lw_all) ∧ (T k).2.2.2 = fin ∧ tyf k = ty
def xFld (own : String) (index ci k : Nat) (ty : FieldType) (fin : Bool) : Prop := ∃ (C : String) (T : u_T) (N : Nat) (tyf : Nat → FieldType) (ref : String), xCls ci C T N tyf ∧ k < N ∧ (Cond.fieldLink own index ref (T k).2.1 (T k).2.2.1 ∈ lw_all ∨ ∃ host : String, Cond.fieldLinkNest own index ref (T k).2.1 (T k).2.2.1 host ∈ lw_tbl) ∧ ((T k).1 = ref ∨ Cond.sameField ref (T k).1 (T k).2.1 (T k).2.2.1 ∈ lw_all) ∧ (T k).2.2.2 = fin ∧ tyf k = ty ∧ (fin = true → (T k).1 = own)
theorem xFld.r {own : String} {index ci k : Nat} {ty : FieldType} {fin : Bool} (h : xFld own index ci k ty fin) : xFldR own index ci k ty fin := by
  obtain ⟨C, T, N, tyf, ref, h1, h2, h3, h4, h5, h6, -⟩ := h
  exact ⟨C, T, N, tyf, ref, h1, h2, h3, h4, h5, h6⟩
section X1H
variable {G : xG} {Y : xR} {pc : Nat} {L : List (Nat × Value)} {rest : List Value} {T : xF}
theorem xlk {s : State} {args : Array Value} {G : xG} {own ref n d : String} {index : Nat} (hts : ∀ w ∈ lw_all, w.before args s = true) (hK : xK G s) (h : Cond.fieldLink own index ref n d ∈ lw_all ∨ ∃ host : String, Cond.fieldLinkNest own index ref n d host ∈ lw_tbl) : (Cond.fieldLink own index ref n d).before args s = true ∨ ∃ host : String, (Cond.fieldLinkNest own index ref n d host).before args s = true := by
  rcases h with h | ⟨host, h⟩
  · exact Or.inl (hts _ h)
  · exact Or.inr ⟨host, va_Nw.use rfl (hK.2.2.1 _ h rfl)⟩
theorem X.getf {index ci k a : Nat} {w : Bool} {fs : List Value} {v : Value} {ty : FieldType} {fin : Bool} (d : decode Y.1.2.1 pc = .ok (.getfield index, 3)) (hf : xFldR Y.1.1.cls index ci k ty fin) (ha : T.1 a = some (w, .inr (ci, fs))) (hv : fs[k]? = some v) (kk : Xr G Y (pc + 3) L (v :: rest) T) : Xr G Y pc L (.ref a :: rest) T := by
  intro p l e s m args below meth c H locs ls hc hd hl
  have K := kk p l e s m args below meth c H locs ls hc hd hl
  obtain ⟨C, Tb, N, tyf, ref, ⟨hci, hin, hty, hnm⟩, hk, hlk, hsm, -⟩ := hf
  obtain ⟨-, hx, hb, -, -, -, hown, -, hts, hK, -⟩ := hc
  obtain ⟨hsz, hrep, -⟩ := hd
  have hat := hrep a _ (ol_some ha)
  obtain ⟨r, cell, h1, h2, h3, h4, h5, -, h6⟩ : ∃ (r : vw_C) (cell : Cell), xClS[ci]? = some r ∧ H[a]? = some cell ∧ cell.cls = gC G ci ∧ cell.vm.isStatics = false ∧ cell.vm ≠ .unknown ∧ (w = true → cell.vm = .none ∧ gB G ≤ a ∧ fs.length = r.2.2) ∧ ∀ k : Nat, k < fs.length → k < r.2.2 → cell.slots[gI G ci k]? = some (vp_V fs k) := by
    cases w <;> exact hat
  have hr : r = (C, Tb, N) := Option.some.inj (h1.symm.trans (xcl_up hci))
  subst hr
  obtain ⟨hS, hfc, kC, hkC, hkind⟩ := hK.1 ci _ hci
  obtain ⟨cf, kf, fi, f, hi, hsl⟩ := hS k hk
  have hst := (u_facts hfc hkC (u_lays hts hin hk) hi).1
  have hi' : s.fieldFound? ref (Tb k).2.1 (Tb k).2.2.1 = some (cf, kf, fi, f) := by
    rcases hsm with e | e
    · rw [← e]; exact hi
    · exact u_same (hts _ e) _ hi
  have hslot : cell.slots[f.slot]? = some v := by
    have hkl : k < fs.length := (List.getElem?_eq_some_iff.mp hv).1
    rw [hsl, h6 k hkl hk]
    simp [vp_V, hv]
  rcases xlk hts hK hlk with hl1 | ⟨host, hl1⟩
  · exact W.getf hx hb hown hl1 hi' hst h2 h5 hslot rfl rfl d K
  · exact va_Wgetf hx hb hown hl1 hi' hst h2 h5 hslot rfl rfl d K
theorem xle.heap {A B : xF} {h : xH} (q : xle A B) : xle A (h, B.2) := q
theorem ol_set {g h : xH} {a b : Nat} {c c' : Bool × xC} (hb : ol g (xset h a c) b = some c') : (b = a ∧ c = c') ∨ (b ≠ a ∧ ol g h b = some c') := by
  unfold ol xset at hb
  by_cases e : b = a
  · rw [if_pos e] at hb
    exact Or.inl ⟨e, Option.some.inj hb⟩
  · rw [if_neg e] at hb
    exact Or.inr ⟨e, hb⟩
theorem xrep_put {G : xG} {g : xH} {s : State} {H H' : Heap} {h : xH} {a : Nat} {c : Bool × xC} (hrep : ∀ (b : Nat) (c : Bool × xC), ol g h b = some c → xat G s b c H) (hne : ∀ q, q ≠ a → H'[q]? = H[q]?) (ha : xat G s a c H') : ∀ (b : Nat) (c' : Bool × xC), ol g (xset h a c) b = some c' → xat G s b c' H' := by
  intro b c' hb
  rcases ol_set hb with ⟨rfl, rfl⟩ | ⟨e, hb⟩
  · exact ha
  · exact (hrep b c' hb).kept (hne b e)
theorem xdm_put {T0 : xF} {h : xH} {a N Z : Nat} {c0 c : Bool × xC} (hd : xdm T0 (h, N, Z)) (ha : h a = some c0) : xdm T0 (xset h a c, N, Z) := by
  intro b hb
  by_cases e : b = a
  · subst e
    exact hd b (by show h b ≠ none; rw [ha]; exact fun q => by cases q)
  · exact hd b (by have hb' : xset h a c b ≠ none := hb; rw [xset_ne e] at hb'; exact hb')
theorem X.putf {index ci k a : Nat} {fs : List Value} {v : Value} {ty : FieldType} {fin : Bool} {h : xH} {N Z : Nat} (d : decode Y.1.2.1 pc = .ok (.putfield index, 3)) (hf : xFld Y.1.1.cls index ci k ty fin) (hfin : fin = true → Y.1.1.name = "<init>") (ha : h a = some (true, .inr (ci, fs))) (hn : narrow ty v = v) (hfit : fits ty v = true) (kk : Xr G Y (pc + 3) L rest (xset h a (true, .inr (ci, fs.set k v)), N, Z)) : Xr G Y pc L (v :: .ref a :: rest) (h, N, Z) := by
  intro p l e s m args below meth c H locs ls hc hd hl
  obtain ⟨C, Tb, NN, tyf, ref, ⟨hci, hin, hty, hnm⟩, hk, hlk, hsm, hff, htt, hdecl⟩ := hf
  have hc' := hc
  obtain ⟨-, hx, hb, -, -, -, hown, hname, hts, hK, -⟩ := hc
  obtain ⟨hsz, hrep, hS9, hd1, hd2, hdm, hd3⟩ := hd
  obtain ⟨r, cell, h1, h2, h3, h4, h5, h7, h6⟩ := hrep a _ (ol_some ha)
  obtain ⟨hvm, hga, hlen⟩ := h7 rfl
  have hr : r = (C, Tb, NN) := Option.some.inj (h1.symm.trans (xcl_up hci))
  subst hr
  have hap := va_apart (D := (gC G, gI G)) (cl := xCl) (tys := []) (own := Y.1.1.cls) hts hin tyf hty hnm ⟨hK.1, fun k q h => by simp at h⟩ hci
  obtain ⟨hS, hfc, kC, hkC, hkind⟩ := hK.1 ci _ hci
  obtain ⟨cf, kf, fi, f, hi, hsl⟩ := hS k hk
  have hst := (u_facts hfc hkC (u_lays hts hin hk) hi).1
  have hi' : s.fieldFound? ref (Tb k).2.1 (Tb k).2.2.1 = some (cf, kf, fi, f) := by
    rcases hsm with e | e
    · rw [← e]; exact hi
    · exact u_same (hts _ e) _ hi
  have hkl : k < fs.length := by rw [hlen]; exact hk
  have hread : ∀ j, j < NN → cell.slots[gI G ci j]? = some (vp_V fs j) := fun j hj => h6 j (by rw [hlen]; exact hj) hj
  have hlt : f.slot < cell.slots.size := by rw [hsl]; exact k2_hasslot (hread k hk)
  have hd9 : parseFieldDescriptor (Tb k).2.2.1 = some ty := by rw [← htt]; exact hty k hk
  have hfit9 := u_fits hfc hkC hkind (u_lays hts hin hk) hi hd9 hn hfit
  have hfin9 : hasFlag f.accessFlags Acc.final = false ∨ (m.cls = cf ∧ meth.name = "<init>") := by
    have hlay := hts _ (hin _ (u_in_lay hk))
    unfold u_lay at hlay
    cases hfc9 : fin with
    | false =>
      rw [if_neg (by rw [hff, hfc9]; decide)] at hlay
      exact Or.inl (u_store hfc hkC hkind hlay hi hd9 hn hfit).1
    | true =>
      refine Or.inr ⟨?_, by rw [hname]; exact hfin hfc9⟩
      rw [if_pos (by rw [hff, hfc9])] at hlay
      obtain ⟨_, _, c', _, _, _, -, -, hf', -, -, -, hown2, -⟩ := Cond.laysFinal_spec hlay
      have e1 : c' = cf := by have := hi.symm.trans hf'; simp at this; exact this.1.symm
      rw [hdecl hfc9] at hown2
      rw [← e1]; exact Option.some.inj (hown.symm.trans hown2)
  have fin' : ∀ H' : Heap, H'[a]? = some (cell.setSlot f.slot v) → H'.size = H.size → (∀ q, q ≠ a → H'[q]? = H[q]?) → W p l e Y.2.1 s m args below meth c H' (locs ++ [⟨a, f.slot⟩]) (N - Y.2.2.1.2.1) (Z - Y.2.2.1.2.2) (xZ G Y below args s) (F0 m (pc + 3) ls rest) := by
    intro H' e1 e2 e3
    refine kk p l e s m args below meth c H' _ ls hc' ⟨e2.trans hsz, xrep_put hrep e3 ?_, hS9.put e2 e3 hga, hd1, hd2, xdm_put hdm ha, hd3⟩ hl
    rw [hsl] at e1
    have key := t_set hread hap hk v
    refine ⟨_, _, xcl_up hci, e1, h3, h4, h5, fun _ => ⟨hvm, hga, by rw [List.length_set]; exact hlen⟩, fun j hj1 hj2 => ?_⟩
    rw [key j hj2, vp_updV_set hkl]
  have haS : a < H.size := (Array.getElem?_eq_some_iff.mp h2).1
  have k9 := fin' (H.setIfInBounds a (cell.setSlot f.slot v)) (by simp [Array.getElem?_setIfInBounds, haS]) (by simp) (fun q hq => by simp [Array.getElem?_setIfInBounds, Ne.symm hq])
  have hfs : s.fitsSlot cell.cls cell.vm f.slot v = true := by rw [h3, hvm]; exact hfit9.2
  rcases xlk hts hK hlk with hl1 | ⟨host, hl1⟩
  · exact W.putf hx hb hown hl1 hi' hst hfin9 h2 h5 hlt hfit9.1 hfs rfl rfl d k9
  · exact va_Wputf hx hb hown hl1 hi' hst hfin9 h2 h5 hlt hfit9.1 hfs rfl rfl d k9
theorem X.iald {a n : Nat} {w : Bool} {f : Nat → Int32} {i : Int32} (d : decode Y.1.2.1 pc = .ok (.iaload, 1)) (ha : T.1 a = some (w, .inl (.int, n, .inl f))) (hin : vp_in i n) (k : Xr G Y (pc + 1) L (.int (f i.toNatClampNeg) :: rest) T) : Xr G Y pc L (.int i :: .ref a :: rest) T := by
  intro p l e s m args below meth c H locs ls hc hd hl
  have K := k p l e s m args below meth c H locs ls hc hd hl
  obtain ⟨-, hx, hb, -, -, -, -, -, -, hK, -⟩ := hc
  obtain ⟨cell, h1, h2, h3, h4, h5, h6⟩ := xarr hK (hd.2.1 a _ (ol_some ha))
  exact W.iald hx hb h1 h2 h3 (xin hin h4) (h6 _ (xin_lt hin)) rfl rfl d K
theorem X.bald {a n : Nat} {w : Bool} {f : Nat → Int32} {i : Int32} (d : decode Y.1.2.1 pc = .ok (.baload, 1)) (ha : T.1 a = some (w, .inl (.byte, n, .inl f))) (hin : vp_in i n) (k : Xr G Y (pc + 1) L (.int (f i.toNatClampNeg) :: rest) T) : Xr G Y pc L (.int i :: .ref a :: rest) T := by
  intro p l e s m args below meth c H locs ls hc hd hl
  have K := k p l e s m args below meth c H locs ls hc hd hl
  obtain ⟨-, hx, hb, -, -, -, -, -, -, hK, -⟩ := hc
  obtain ⟨cell, h1, h2, h3, h4, h5, h6⟩ := xarr hK (hd.2.1 a _ (ol_some ha))
  exact W.bald hx hb h1 h2 h3 (xin hin h4) (h6 _ (xin_lt hin)) rfl rfl d K
theorem X.zald {a n : Nat} {w : Bool} {f : Nat → Int32} {i : Int32} (d : decode Y.1.2.1 pc = .ok (.baload, 1)) (ha : T.1 a = some (w, .inl (.boolean, n, .inl f))) (hin : vp_in i n) (k : Xr G Y (pc + 1) L (.int (f i.toNatClampNeg) :: rest) T) : Xr G Y pc L (.int i :: .ref a :: rest) T := by
  intro p l e s m args below meth c H locs ls hc hd hl
  have K := k p l e s m args below meth c H locs ls hc hd hl
  obtain ⟨-, hx, hb, -, -, -, -, -, -, hK, -⟩ := hc
  obtain ⟨cell, h1, h2, h3, h4, h5, h6⟩ := xarr hK (hd.2.1 a _ (ol_some ha))
  exact W.zald hx hb h1 h2 h3 (xin hin h4) (h6 _ (xin_lt hin)) rfl rfl d K
theorem X.lald {a n : Nat} {w : Bool} {f : Nat → Int64} {i : Int32} (d : decode Y.1.2.1 pc = .ok (.laload, 1)) (ha : T.1 a = some (w, .inl (.long, n, .inr (.inl f)))) (hin : vp_in i n) (k : Xr G Y (pc + 1) L (.long (f i.toNatClampNeg) :: rest) T) : Xr G Y pc L (.int i :: .ref a :: rest) T := by
  intro p l e s m args below meth c H locs ls hc hd hl
  have K := k p l e s m args below meth c H locs ls hc hd hl
  obtain ⟨-, hx, hb, -, -, -, -, -, -, hK, -⟩ := hc
  obtain ⟨cell, h1, h2, h3, h4, h5, h6⟩ := xarr hK (hd.2.1 a _ (ol_some ha))
  exact W.lald hx hb h1 h2 h3 (xin hin h4) (h6 _ (xin_lt hin)) rfl rfl d K
theorem X.aald {a n : Nat} {w : Bool} {f : Nat → Option Nat} {i : Int32} {ty : FieldType} (hr : ty.isReference = true) (d : decode Y.1.2.1 pc = .ok (.aaload, 1)) (ha : T.1 a = some (w, .inl (ty, n, .inr (.inr (.inr (.inr f)))))) (hin : vp_in i n) (k : Xr G Y (pc + 1) L (va_rf (f i.toNatClampNeg) :: rest) T) : Xr G Y pc L (.int i :: .ref a :: rest) T := by
  intro p l e s m args below meth c H locs ls hc hd hl
  have K := k p l e s m args below meth c H locs ls hc hd hl
  obtain ⟨-, hx, hb, -, -, -, -, -, -, hK, -⟩ := hc
  obtain ⟨cell, h1, h2, h3, h4, h5, h6⟩ := xarr hK (hd.2.1 a _ (ol_some ha))
  exact W.aald hx hb h1 h2 hr h3 (xin hin h4) (h6 _ (xin_lt hin)) rfl rfl d K
theorem X.alen {a : Nat} {w : Bool} {ty : FieldType} {A : vp_A} {v : Int32} (d : decode Y.1.2.1 pc = .ok (.arraylength, 1)) (ha : T.1 a = some (w, .inl (ty, A))) (hv : Int32.ofNat A.1 = v) (k : Xr G Y (pc + 1) L (.int v :: rest) T) : Xr G Y pc L (.ref a :: rest) T := by
  intro p l e s m args below meth c H locs ls hc hd hl
  have K := k p l e s m args below meth c H locs ls hc hd hl
  obtain ⟨-, hx, hb, -, -, -, -, -, -, hK, -⟩ := hc
  obtain ⟨cell, h1, h2, h3, h4, h5, h6⟩ := xarr hK (hd.2.1 a _ (ol_some ha))
  exact W.alen hx hb h1 h2 (h5.trans hv) rfl rfl d K
theorem X.iast {a n N Z : Nat} {f : Nat → Int32} {i : Int32} {x : Int32} {h : xH} (d : decode Y.1.2.1 pc = .ok (.iastore, 1)) (ha : h a = some (true, .inl (.int, n, .inl f))) (hin : vp_in i n) (kk : Xr G Y (pc + 1) L rest (xset h a (true, .inl (.int, n, .inl (upd f i.toNatClampNeg x))), N, Z)) : Xr G Y pc L (.int x :: .int i :: .ref a :: rest) (h, N, Z) := by
  intro p l e s m args below meth c H locs ls hc hd hl
  have hc' := hc
  obtain ⟨-, hx, hb, -, -, -, -, -, -, hK, -⟩ := hc
  obtain ⟨hsz, hrep, hS9, hd1, hd2, hdm, hd3⟩ := hd
  obtain ⟨h1, hga, hty⟩ := hrep a _ (ol_some ha)
  refine W.iast hx hb h1 ((hK.2.1 _ hty).1 n _) (fun q => by cases q) (by show ¬ (i < 0 ∨ (arrV _ _ _).slots.size ≤ _); rw [arrV_size]; exact hin) rfl rfl d fun H1 e z oq => ?_
  refine kk p l _ s m args below meth c H1 _ ls hc' ⟨z.trans hsz, xrep_put hrep oq ?_, hS9.put z oq hga, hd1, hd2, xdm_put hdm ha, hd3⟩ hl
  refine ⟨?_, hga, hty⟩
  rw [e]
  rw [vp_cell_i, vp_cell_i, arrV_store]
  congr 2
  funext q
  by_cases hq : q = i.toNatClampNeg
  · subst hq
    simp [updV, upd, vp_updL, vp_nar]
    try rfl
  · simp [updV, upd, vp_updL, hq]
theorem X.bast {a n N Z : Nat} {f : Nat → Int32} {i : Int32} {x : Int32} {h : xH} (d : decode Y.1.2.1 pc = .ok (.bastore, 1)) (ha : h a = some (true, .inl (.byte, n, .inl f))) (hin : vp_in i n) (kk : Xr G Y (pc + 1) L rest (xset h a (true, .inl (.byte, n, .inl (upd f i.toNatClampNeg (vp_nar .byte x)))), N, Z)) : Xr G Y pc L (.int x :: .int i :: .ref a :: rest) (h, N, Z) := by
  intro p l e s m args below meth c H locs ls hc hd hl
  have hc' := hc
  obtain ⟨-, hx, hb, -, -, -, -, -, -, hK, -⟩ := hc
  obtain ⟨hsz, hrep, hS9, hd1, hd2, hdm, hd3⟩ := hd
  obtain ⟨h1, hga, hty⟩ := hrep a _ (ol_some ha)
  refine W.bast hx hb h1 ((hK.2.1 _ hty).1 n _) (fun q => by cases q) (by show ¬ (i < 0 ∨ (arrV _ _ _).slots.size ≤ _); rw [arrV_size]; exact hin) rfl rfl d fun H1 e z oq => ?_
  refine kk p l _ s m args below meth c H1 _ ls hc' ⟨z.trans hsz, xrep_put hrep oq ?_, hS9.put z oq hga, hd1, hd2, xdm_put hdm ha, hd3⟩ hl
  refine ⟨?_, hga, hty⟩
  rw [e]
  rw [vp_cell_i, vp_cell_i, arrV_store]
  congr 2
  funext q
  by_cases hq : q = i.toNatClampNeg
  · subst hq
    simp [updV, upd, vp_updL, vp_nar]
    try rfl
  · simp [updV, upd, vp_updL, hq]
theorem X.zast {a n N Z : Nat} {f : Nat → Int32} {i : Int32} {x : Int32} {h : xH} (d : decode Y.1.2.1 pc = .ok (.bastore, 1)) (ha : h a = some (true, .inl (.boolean, n, .inl f))) (hin : vp_in i n) (kk : Xr G Y (pc + 1) L rest (xset h a (true, .inl (.boolean, n, .inl (upd f i.toNatClampNeg (vp_nar .boolean x)))), N, Z)) : Xr G Y pc L (.int x :: .int i :: .ref a :: rest) (h, N, Z) := by
  intro p l e s m args below meth c H locs ls hc hd hl
  have hc' := hc
  obtain ⟨-, hx, hb, -, -, -, -, -, -, hK, -⟩ := hc
  obtain ⟨hsz, hrep, hS9, hd1, hd2, hdm, hd3⟩ := hd
  obtain ⟨h1, hga, hty⟩ := hrep a _ (ol_some ha)
  refine W.zast hx hb h1 ((hK.2.1 _ hty).1 n _) (fun q => by cases q) (by show ¬ (i < 0 ∨ (arrV _ _ _).slots.size ≤ _); rw [arrV_size]; exact hin) rfl rfl d fun H1 e z oq => ?_
  refine kk p l _ s m args below meth c H1 _ ls hc' ⟨z.trans hsz, xrep_put hrep oq ?_, hS9.put z oq hga, hd1, hd2, xdm_put hdm ha, hd3⟩ hl
  refine ⟨?_, hga, hty⟩
  rw [e]
  rw [vp_cell_i, vp_cell_i, arrV_store]
  congr 2
  funext q
  by_cases hq : q = i.toNatClampNeg
  · subst hq
    simp [updV, upd, vp_updL, vp_nar]
    try rfl
  · simp [updV, upd, vp_updL, hq]
theorem X.last {a n N Z : Nat} {f : Nat → Int64} {i : Int32} {x : Int64} {h : xH} (d : decode Y.1.2.1 pc = .ok (.lastore, 1)) (ha : h a = some (true, .inl (.long, n, .inr (.inl f)))) (hin : vp_in i n) (kk : Xr G Y (pc + 1) L rest (xset h a (true, .inl (.long, n, .inr (.inl (vp_updL f i.toNatClampNeg x)))), N, Z)) : Xr G Y pc L (.long x :: .int i :: .ref a :: rest) (h, N, Z) := by
  intro p l e s m args below meth c H locs ls hc hd hl
  have hc' := hc
  obtain ⟨-, hx, hb, -, -, -, -, -, -, hK, -⟩ := hc
  obtain ⟨hsz, hrep, hS9, hd1, hd2, hdm, hd3⟩ := hd
  obtain ⟨h1, hga, hty⟩ := hrep a _ (ol_some ha)
  refine W.last hx hb h1 ((hK.2.1 _ hty).1 n _) (fun q => by cases q) (by show ¬ (i < 0 ∨ (arrV _ _ _).slots.size ≤ _); rw [arrV_size]; exact hin) rfl rfl d fun H1 e z oq => ?_
  refine kk p l _ s m args below meth c H1 _ ls hc' ⟨z.trans hsz, xrep_put hrep oq ?_, hS9.put z oq hga, hd1, hd2, xdm_put hdm ha, hd3⟩ hl
  refine ⟨?_, hga, hty⟩
  rw [e]
  rw [vp_cell_l, vp_cell_l, arrV_store]
  congr 2
  funext q
  by_cases hq : q = i.toNatClampNeg
  · subst hq
    simp [updV, upd, vp_updL, vp_nar]
    try rfl
  · simp [updV, upd, vp_updL, hq]
end X1H
/-! LAYER X1: what is made, calls, answers -/
section X1C
variable {G : xG} {Y : xR} {pc : Nat} {L : List (Nat × Value)} {rest : List Value}
theorem xrep_new {G : xG} {g : xH} {s : State} {H H' : Heap} {h : xH} {a : Nat} {c : Bool × xC} (hrep : ∀ (b : Nat) (c : Bool × xC), ol g h b = some c → xat G s b c H) (ho : ∀ q, q < a → H'[q]? = H[q]?) (hz : H.size = a) (ha : xat G s a c H') : ∀ (b : Nat) (c' : Bool × xC), ol g (xset h a c) b = some c' → xat G s b c' H' := by
  intro b c' hb
  rcases ol_set hb with ⟨rfl, rfl⟩ | ⟨e, hb⟩
  · exact ha
  · exact (hrep b c' hb).kept (ho b (by have := (hrep b c' hb).lt; omega))
theorem xdm_new {T0 : xF} {h : xH} {N Z Z' : Nat} {c : Bool × xC} (hd : xdm T0 (h, N, Z)) (hn : T0.2.1 ≤ N) : xdm T0 (xset h N c, N + 1, Z') := by
  intro b hb
  by_cases e : b = N
  · exact Or.inr (by rw [e]; exact hn)
  · exact hd b (by have hb' : xset h N c b ≠ none := hb; rw [xset_ne e] at hb'; exact hb')
theorem xS_new {A : Nat → Prop} {H0 H H1 : Heap} {locs : List Loc} (hS : va_S A H0 H locs) (z : H1.size = H.size + 1) (o : ∀ q, q < H.size → H1[q]? = H[q]?) : va_S A H0 H1 locs := ⟨Nat.le_trans hS.1 (by omega), fun x h1 h2 => (o x (Nat.lt_of_lt_of_le h1 hS.1)).trans (hS.2.1 x h1 h2), hS.2.2⟩
theorem X.new {index ci n : Nat} {C : String} {Tb : u_T} {ty : Nat → FieldType} {fs : List Value} {h : xH} {N Z : Nat} (d : decode Y.1.2.1 pc = .ok (.new index, 3)) (hcl : xCls ci C Tb n ty) (hlk : Cond.classLink Y.1.1.cls index C ∈ lw_all) (hins : Cond.instantiable C n ∈ lw_all) (hini : Cond.initialized C ∈ lw_all) (hfs : fs.length = n) (hdf : ∀ j, j < n → defaultValue (ty j) = vp_V fs j)
    (hle : xle (xset h N (true, .inr (ci, fs)), N + 1, Z + n) Y.2.2.2.2) (kk : Xr G Y (pc + 3) L (.ref N :: rest) (xset h N (true, .inr (ci, fs)), N + 1, Z + n)) : Xr G Y pc L rest (h, N, Z) := by
  intro p l e s m args below meth c H locs ls hc hd hl
  obtain ⟨hci, hin, hty, hnm⟩ := hcl
  have hc' := hc
  obtain ⟨-, hx, hb, -, -, -, hown, hname, hts, hK, -, hsz0, hgb, -⟩ := hc
  obtain ⟨hsz, hrep, hS9, hd1, hd2, hdm, hd3⟩ := hd
  have hsz' : H.size = N := hsz
  have hKn := hK.1 ci _ hci
  have r1 := hle.1; have r2 := hle.2; have r3 := hd3.1; have r4 := hd3.2; have r5 := hd1.1; have r6 := hd1.2
  dsimp only at r1 r2 r5 r6
  refine W.newcK hx hb hown (hts _ hlk) (hts _ hins) (hts _ hini) rfl d (by dsimp only; omega) (by dsimp only; omega) hKn.2.1 hsz' fun H1 kC hkC e1 z1 o1 => ?_
  have e9 : (N + 1) - Y.2.2.1.2.1 = (N - Y.2.2.1.2.1) + 1 := by omega
  have e8 : (Z + n) - Y.2.2.1.2.2 = (Z - Y.2.2.1.2.2) + n := by omega
  have K := kk p l e s m args below meth c H1 locs ls hc' ⟨z1, xrep_new hrep o1 hsz' ?_, xS_new hS9 (by rw [hsz']; exact z1) (by rw [hsz']; exact o1), xle.tr hd1 ⟨by dsimp only; omega, by dsimp only; omega⟩, hle, xdm_new hdm r5, hd3⟩ hl
  · dsimp only at K
    rw [e9, e8] at K
    exact K
  · obtain ⟨cell, b1, b2, b3, b4⟩ := u_born ty hts hin hKn hkC e1 hty
    exact ⟨_, cell, xcl_up hci, b1, b2, by rw [b3]; rfl, (by rw [b3]; exact fun q => by cases q), fun _ => ⟨b3, by omega, hfs⟩, fun k hk1 hk2 => by rw [b4 k hk2, ← hdf k hk2]⟩
theorem xaid {G : xG} {s : State} {ty : FieldType} (hK : xK G s) (ht : ty ∈ xTys) (hr : ty.isReference = false) {cA : ClassId} (h : s.vm.findClass ("[" ++ ty.toString) = some cA) : cA = gA G ty := by
  have h2 := (hK.2.1 ty ht).2
  cases ty with
  | object C => cases hr
  | _ => exact Option.some.inj (h.symm.trans h2)
theorem X.newa {atype : ArrayType} {ty : FieldType} {n : Int32} {n' : Nat} {A : vp_A} {h : xH} {N Z : Nat} (d : decode Y.1.2.1 pc = .ok (.newarray atype, 2)) (hty : newarray.typeOf atype = ty) (htm : ty ∈ xTys) (hr : ty.isReference = false) (hw : Cond.arrayClass ty ∈ lw_all) (hA : ∀ cA : ClassId, vp_cell cA A = arrV cA n' (fun _ => defaultValue ty)) (hn : ¬ n < 0) (hN : n.toNatClampNeg = n') (hby : n' * componentBytes ty ≤ 536870912)
    (hle : xle (xset h N (true, .inl (ty, A)), N + 1, Z + n') Y.2.2.2.2) (kk : Xr G Y (pc + 2) L (.ref N :: rest) (xset h N (true, .inl (ty, A)), N + 1, Z + n')) : Xr G Y pc L (.int n :: rest) (h, N, Z) := by
  intro p l e s m args below meth c H locs ls hc hd hl
  have hc' := hc
  obtain ⟨-, hx, hb, -, -, -, hown, hname, hts, hK, -, hsz0, hgb, -⟩ := hc
  obtain ⟨hsz, hrep, hS9, hd1, hd2, hdm, hd3⟩ := hd
  have hsz' : H.size = N := hsz
  have r1 := hle.1; have r2 := hle.2; have r3 := hd3.1; have r4 := hd3.2; have r5 := hd1.1; have r6 := hd1.2
  dsimp only at r1 r2 r5 r6
  subst hty
  refine va_newaK hx hb (hts _ hw) rfl d rfl hn hN hby (by dsimp only; omega) (by dsimp only; omega) hsz' fun H1 cA e1 z1 o1 hAr hNm => ?_
  have e9 : (N + 1) - Y.2.2.1.2.1 = (N - Y.2.2.1.2.1) + 1 := by omega
  have e8 : (Z + n') - Y.2.2.1.2.2 = (Z - Y.2.2.1.2.2) + n' := by omega
  have K := kk p l e s m args below meth c H1 locs ls hc' ⟨z1, xrep_new hrep o1 hsz' ?_, xS_new hS9 (by rw [hsz']; exact z1) (by rw [hsz']; exact o1), xle.tr hd1 ⟨by dsimp only; omega, by dsimp only; omega⟩, hle, xdm_new hdm r5, hd3⟩ hl
  · dsimp only at K
    rw [e9, e8] at K
    exact K
  · refine ⟨?_, by omega, htm⟩
    rw [hA, ← xaid hK htm hr hNm]
    exact e1
/-! answers -/
theorem X.iret {ty : FieldType} {v : Int32} {T : xF} (d : decode Y.1.2.1 pc = .ok (.ireturn, 1)) (hr : Y.1.2.2.2.1 = some ty) (hn : narrow ty (.int v) = .int v) (ho : Y.2.2.2 = (.inl (some (.int v)), T)) : Xr G Y pc L [.int v] T := by
  intro p l e s m args below meth c H locs ls hc hd hl
  obtain ⟨-, hx, hb, hrt, hlk, -, -, -, -, hK, hSt, -, hgb, -⟩ := hc
  obtain ⟨hsz, hrep, hS9, hd1, hd2, hdm, hd3⟩ := hd
  obtain ⟨M, R, T0, o⟩ := Y
  dsimp only at ho hrt hr hd1 ⊢
  subst ho
  refine W.mq (W.zret (Qc := fun _ st oc t => oc = .returned (some (.int v)) ∧ (xW G T t ∧ xdm T0 T) ∧ va_F (xAf G) st t) (free := xAf G) hx hb (hrt.trans hr) hn (fun t ht hW => ⟨rfl, ?_, hS9.F ht⟩) hS9.2.2 d hlk) (fun t ht => ?_)
  · exact ⟨⟨by rw [ht]; exact hsz, fun a cc hcc => by rw [ht]; exact (hrep a cc hcc).moved hW.alike, hK.warm hW, fun i q hq => by rw [ht]; exact (xZs.moved hW.alike (hSt i q hq)).kept hS9.2.1, Nat.le_trans hgb hd1.1⟩, hdm⟩
  · obtain ⟨oc, q1, q2, q3, L9, q4, q5⟩ := ht
    exact ⟨oc, q1, q2, q3, L9, q4, q5⟩
theorem X.lret {v : Int64} {T : xF} (d : decode Y.1.2.1 pc = .ok (.lreturn, 1)) (hr : Y.1.2.2.2.1 = some .long) (ho : Y.2.2.2 = (.inl (some (.long v)), T)) : Xr G Y pc L [.long v] T := by
  intro p l e s m args below meth c H locs ls hc hd hl
  obtain ⟨-, hx, hb, hrt, hlk, -, -, -, -, hK, hSt, -, hgb, -⟩ := hc
  obtain ⟨hsz, hrep, hS9, hd1, hd2, hdm, hd3⟩ := hd
  obtain ⟨M, R, T0, o⟩ := Y
  dsimp only at ho hrt hr hd1 ⊢
  subst ho
  refine W.mq (W.lret (Qc := fun _ st oc t => oc = .returned (some (.long v)) ∧ (xW G T t ∧ xdm T0 T) ∧ va_F (xAf G) st t) (free := xAf G) hx hb (hrt.trans hr) (fun t ht hW => ⟨rfl, ?_, hS9.F ht⟩) hS9.2.2 d hlk) (fun t ht => ?_)
  · exact ⟨⟨by rw [ht]; exact hsz, fun a cc hcc => by rw [ht]; exact (hrep a cc hcc).moved hW.alike, hK.warm hW, fun i q hq => by rw [ht]; exact (xZs.moved hW.alike (hSt i q hq)).kept hS9.2.1, Nat.le_trans hgb hd1.1⟩, hdm⟩
  · obtain ⟨oc, q1, q2, q3, L9, q4, q5⟩ := ht
    exact ⟨oc, q1, q2, q3, L9, q4, q5⟩
theorem X.vret {T : xF} (d : decode Y.1.2.1 pc = .ok (.return_, 1)) (hr : Y.1.2.2.2.1 = none) (ho : Y.2.2.2 = (.inl none, T)) : Xr G Y pc L [] T := by
  intro p l e s m args below meth c H locs ls hc hd hl
  obtain ⟨-, hx, hb, hrt, hlk, -, -, -, -, hK, hSt, -, hgb, -⟩ := hc
  obtain ⟨hsz, hrep, hS9, hd1, hd2, hdm, hd3⟩ := hd
  obtain ⟨M, R, T0, o⟩ := Y
  dsimp only at ho hrt hr hd1 ⊢
  subst ho
  refine W.mq (W.vret (Qc := fun _ st oc t => oc = .returned none ∧ (xW G T t ∧ xdm T0 T) ∧ va_F (xAf G) st t) (free := xAf G) hx hb (hrt.trans hr) (fun t ht hW => ⟨rfl, ?_, hS9.F ht⟩) hS9.2.2 d hlk) (fun t ht => ?_)
  · exact ⟨⟨by rw [ht]; exact hsz, fun a cc hcc => by rw [ht]; exact (hrep a cc hcc).moved hW.alike, hK.warm hW, fun i q hq => by rw [ht]; exact (xZs.moved hW.alike (hSt i q hq)).kept hS9.2.1, Nat.le_trans hgb hd1.1⟩, hdm⟩
  · obtain ⟨oc, q1, q2, q3, L9, q4, q5⟩ := ht
    exact ⟨oc, q1, q2, q3, L9, q4, q5⟩
theorem X.aret {r : Option Nat} {rt : FieldType} {T : xF} (d : decode Y.1.2.1 pc = .ok (.areturn, 1)) (hr : Y.1.2.2.2.1 = some rt) (hrt : (∃ n, rt = .object n) ∨ ∃ t, rt = .array t) (ho : Y.2.2.2 = (.inl (some (va_rf r)), T)) : Xr G Y pc L [va_rf r] T := by
  intro p l e s m args below meth c H locs ls hc hd hl
  obtain ⟨-, hx, hb, hrt9, hlk, -, -, -, -, hK, hSt, -, hgb, -⟩ := hc
  obtain ⟨hsz, hrep, hS9, hd1, hd2, hdm, hd3⟩ := hd
  obtain ⟨M, R, T0, o⟩ := Y
  dsimp only at ho hrt9 hr hd1 ⊢
  subst ho
  refine W.mq (W.aret (Qc := fun _ st oc t => oc = .returned (some (va_rf r)) ∧ (xW G T t ∧ xdm T0 T) ∧ va_F (xAf G) st t) (free := xAf G) hx hb (hrt9.trans hr) hrt (va_rf_or r) (fun t ht hW => ⟨rfl, ?_, hS9.F ht⟩) hS9.2.2 d hlk) (fun t ht => ?_)
  · exact ⟨⟨by rw [ht]; exact hsz, fun a cc hcc => by rw [ht]; exact (hrep a cc hcc).moved hW.alike, hK.warm hW, fun i q hq => by rw [ht]; exact (xZs.moved hW.alike (hSt i q hq)).kept hS9.2.1, Nat.le_trans hgb hd1.1⟩, hdm⟩
  · obtain ⟨oc, q1, q2, q3, L9, q4, q5⟩ := ht
    exact ⟨oc, q1, q2, q3, L9, q4, q5⟩
/-! calls that return -/
theorem xgo {p : Program} {l : Launch} {e : Env} {R : Room} {s : State} {m : MethodId} {args : Array Value} {below : List Frame} {meth : Method} {c : Code} {H : Heap} {locs : List Loc} {cells slots mc ms : Nat} {Q : State → Prop} {ls : Array Slot} {st0 rest : List Value} {v : Option Value} {T T2 : xF}
    (hr : va_Run p l e R s m args below meth c H locs cells slots mc ms (F0 m pc ls st0) rest (fun st oc t => oc = .returned v ∧ (xW G T2 t ∧ xdm T T2) ∧ va_F (xAf G) st t) (xAf G)) (hS : va_S (xAf G) s.heap H locs)
    (kk : ∀ (H1 : Heap) (locs1 : List Loc), H1.size = T2.2.1 → (∀ (a : Nat) (c : Bool × xC), ol (gR G) T2.1 a = some c → xat G s a c H1) → va_S (xAf G) s.heap H1 locs1 → xdm T T2 → W p l e R s m args below meth c H1 locs1 (cells + mc) (slots + ms) Q (F0 m (pc + 3) ls (v.toList ++ rest))) : W p l e R s m args below meth c H locs cells slots Q (F0 m pc ls st0) := by
  intro TT hT X
  obtain ⟨v', st₀, t, T', L, h0, X', hL, e1, e2, ⟨hv, ⟨hxw, hdm⟩, hz, hk⟩, st⟩ := hr TT hT X
  cases hv
  rw [h0] at hz hk
  have hal : t.vm.Alike s.vm := by rw [← e2]; exact X'.warmed.alike.symm
  obtain ⟨t2, a1, b1⟩ := kk T'.heap (locs ++ L) (by rw [e1]; exact hxw.1) (fun a cc hcc => by rw [e1]; exact (hxw.2.1 a cc hcc).moved hal)
    ⟨Nat.le_trans hS.1 (by rw [e1]; exact hz), fun q h1 h2 => by rw [e1, hk q (Nat.lt_of_lt_of_le h1 hS.1) h2]; exact hS.2.1 q h1 h2, fun q hq => by
      rcases List.mem_append.mp hq with h | h
      · exact hS.2.2 q h
      · exact hL q h⟩ hdm T' rfl X'
  exact ⟨t2, st t2 a1, b1⟩
/-- a called method's row in a class' file: what the tables must say of it, and its count of arguments -/
def xCV (own : String) (index : Nat) (Yc : xM) (n : Nat) : Prop := GoodIn lw_all (wsV own index Yc.1.cls Yc.1 (ws_ Yc.1 Yc.2.1 Yc.2.2.1 Yc.2.2.2.1)) ∧ Yc.2.2.2.2 = [] ∧ (Yc.1.cls ≠ "java/lang/invoke/MethodHandle" ∧ Yc.1.cls ≠ "java/lang/invoke/VarHandle" ∧ (parseMethodDescriptor Yc.1.desc).map (fun d => d.parameters.length) = some n) ∧ Yc.2.2.1 ≤ 45
def xCS (own : String) (index : Nat) (Yc : xM) (n : Nat) : Prop := GoodIn lw_all (va_wsS own index Yc.1 (ws_ Yc.1 Yc.2.1 Yc.2.2.1 Yc.2.2.2.1)) ∧ Yc.2.2.2.2 = [] ∧ (Yc.1.cls ≠ "java/lang/invoke/MethodHandle" ∧ Yc.1.cls ≠ "java/lang/invoke/VarHandle" ∧ (parseMethodDescriptor Yc.1.desc).map (fun d => d.parameters.length) = some n) ∧ Yc.2.2.1 ≤ 45
def xCI (own : String) (index : Nat) (Yc : xM) (n : Nat) : Prop := (GoodIn lw_all (ws_ Yc.1 Yc.2.1 Yc.2.2.1 none) ∧ Yc.2.2.2.1 = none ∧ Cond.initialized Yc.1.cls ∈ lw_all ∧ Cond.methodLink own index Yc.1 ∈ lw_all ∧ Cond.instanceMethod Yc.1 ∈ lw_all ∧ Yc.1.name = "<init>") ∧ Yc.2.2.2.2 = [] ∧ (Yc.1.cls ≠ "java/lang/invoke/MethodHandle" ∧ Yc.1.cls ≠ "java/lang/invoke/VarHandle" ∧ (parseMethodDescriptor Yc.1.desc).map (fun d => d.parameters.length) = some n) ∧ Yc.2.2.1 ≤ 45
theorem xsub {a b c : Nat} (h1 : a ≤ b) (h2 : b ≤ c) : b - a + (c - b) = c - a := by omega
theorem xobj {s : State} {G : xG} {a ci : Nat} {w : Bool} {fs : List Value} {H : Heap} {r : vw_C} (hK : xK G s) (hr : xClS[ci]? = some r) (h : xat G s a (w, .inr (ci, fs)) H) : ∃ cell : Cell, H[a]? = some cell ∧ cell.vm.isStatics = false ∧ s.vm.findClass r.1 = some cell.cls := by
  obtain ⟨r', cell, h1, h2, h3, h4, -⟩ : ∃ (r : vw_C) (cell : Cell), xClS[ci]? = some r ∧ H[a]? = some cell ∧ cell.cls = gC G ci ∧ cell.vm.isStatics = false ∧ cell.vm ≠ .unknown ∧ (w = true → cell.vm = .none ∧ gB G ≤ a ∧ fs.length = r.2.2) ∧ ∀ k : Nat, k < fs.length → k < r.2.2 → cell.slots[gI G ci k]? = some (vp_V fs k) := by
    cases w <;> exact h
  exact ⟨cell, h2, h4, by rw [h3]; exact xfind hK hr⟩
theorem X.callV {index n b ci Dc : Nat} {Yc : xM} {w : Bool} {fs As st : List Value} {r : vw_C} {v : Option Value} {T T2 : xF} (d : decode Y.1.2.1 pc = .ok (.invokevirtual index, 3)) (hct : Ct G Yc Dc T (.ref b :: As) (.inl v) T2) (hq : xCV Y.1.1.cls index Yc n) (hn : As.length = n) (hst : st = As.reverse ++ .ref b :: rest) (hrs : (rest.map fun v => v.category).sum ≤ 8) (hb0 : T.1 b = some (w, .inr (ci, fs))) (hci : xClS[ci]? = some r) (hrc : Yc.1.cls = r.1)
    (hD : Dc + 1 ≤ Y.2.1.frames ∧ 64 * Dc + 64 ≤ Y.2.1.locals) (h2 : xle T T2) (h3 : xle T2 Y.2.2.2.2) (k : Xr G Y (pc + 3) L (v.toList ++ rest) T2) : Xr G Y pc L st T := by
  intro p l e s m args below meth c H locs ls hc hd hl
  have hc' := hc
  obtain ⟨hfl, hx, hb, -, -, hml, hown, hname, hts, hK, hSt, hsz0, hgb, -⟩ := hc
  obtain ⟨hsz, hrep, hS9, hd1, hd2, hdm, hd3⟩ := hd
  obtain ⟨hq1, hq2, hq3, hq4⟩ := hq
  subst hst
  have hM := hct h2 l hfl
  obtain ⟨y, cc, nL, ret, hh⟩ := Yc
  dsimp only at hq1 hq2 hq3 hq4 hrc
  subst hq2
  have r1 := h2.1; have r2 := h2.2; have r3 := h3.1; have r4 := h3.2; have r5 := hd1.1; have r6 := hd1.2; have r7 := hd3.1; have r8 := hd3.2
  refine xgo (va_runV (Qc := fun _ st oc t => oc = .returned v ∧ (xW G T2 t ∧ xdm T T2) ∧ va_F (xAf G) st t) (free := xAf G) (As := As) (rest := rest) (n := n) ⟨hx, hb, hml, hown, hts⟩ hM (cwV n hts hq1 rfl rfl rfl ⟨rfl, hq3⟩ ⟨hD.1, ?_⟩) ⟨xblind, ?_, fun U hU hW => ⟨rfl, ?_⟩⟩ rfl hn hl.1 rfl (lv_room hrs) d ⟨?_, ?_⟩) hS9 fun H1 locs1 z1 hrep1 hS1 hdm1 => ?_
  · show 8 + (nL + 11) + 64 * Dc ≤ _
    omega
  · rw [hrc]
    exact xobj hK hci (hrep b _ (ol_some hb0))
  · exact ⟨by rw [hU]; exact hsz, fun a cc hcc => by rw [hU]; exact (hrep a cc hcc).moved hW.alike, hK.warm hW, fun i q hq => by rw [hU]; exact (xZs.moved hW.alike (hSt i q hq)).kept hS9.2.1, Nat.le_trans hgb hd1.1⟩
  · rw [xsub r5 r1]; omega
  · rw [xsub r6 r2]; omega
  · have K := k p l e s m args below meth c H1 locs1 ls hc' ⟨z1, hrep1, hS1, xle.tr hd1 h2, h3, xdm.tr r5 hdm hdm1, hd3⟩ hl
    rw [xsub r5 r1, xsub r6 r2]
    exact K
theorem X.callS {index n Dc : Nat} {Yc : xM} {As st : List Value} {v : Option Value} {T T2 : xF} (d : decode Y.1.2.1 pc = .ok (.invokestatic index, 3)) (hct : Ct G Yc Dc T As (.inl v) T2) (hq : xCS Y.1.1.cls index Yc n) (hn : As.length = n) (hst : st = As.reverse ++ rest) (hrs : (rest.map fun v => v.category).sum ≤ 8)
    (hD : Dc + 1 ≤ Y.2.1.frames ∧ 64 * Dc + 64 ≤ Y.2.1.locals) (h2 : xle T T2) (h3 : xle T2 Y.2.2.2.2) (k : Xr G Y (pc + 3) L (v.toList ++ rest) T2) : Xr G Y pc L st T := by
  intro p l e s m args below meth c H locs ls hc hd hl
  have hc' := hc
  obtain ⟨hfl, hx, hb, -, -, hml, hown, hname, hts, hK, hSt, hsz0, hgb, -⟩ := hc
  obtain ⟨hsz, hrep, hS9, hd1, hd2, hdm, hd3⟩ := hd
  obtain ⟨hq1, hq2, hq3, hq4⟩ := hq
  subst hst
  have hM := hct h2 l hfl
  obtain ⟨y, cc, nL, ret, hh⟩ := Yc
  dsimp only at hq1 hq2 hq3 hq4
  subst hq2
  have r1 := h2.1; have r2 := h2.2; have r3 := h3.1; have r4 := h3.2; have r5 := hd1.1; have r6 := hd1.2; have r7 := hd3.1; have r8 := hd3.2
  refine xgo (va_runS (Qc := fun _ st oc t => oc = .returned v ∧ (xW G T2 t ∧ xdm T T2) ∧ va_F (xAf G) st t) (free := xAf G) (As := As) (rest := rest) (n := n) ⟨hx, hb, hml, hown, hts⟩ hM (va_cwS n hts hq1 rfl rfl rfl hq3 ⟨hD.1, ?_⟩) ⟨xblind, fun U hU hW => ⟨rfl, ?_⟩⟩ rfl hn hl.1 rfl (lv_room hrs) d ⟨?_, ?_⟩) hS9 fun H1 locs1 z1 hrep1 hS1 hdm1 => ?_
  · show 8 + (nL + 11) + 64 * Dc ≤ _
    omega
  · exact ⟨by rw [hU]; exact hsz, fun a cc hcc => by rw [hU]; exact (hrep a cc hcc).moved hW.alike, hK.warm hW, fun i q hq => by rw [hU]; exact (xZs.moved hW.alike (hSt i q hq)).kept hS9.2.1, Nat.le_trans hgb hd1.1⟩
  · rw [xsub r5 r1]; omega
  · rw [xsub r6 r2]; omega
  · have K := k p l e s m args below meth c H1 locs1 ls hc' ⟨z1, hrep1, hS1, xle.tr hd1 h2, h3, xdm.tr r5 hdm hdm1, hd3⟩ hl
    rw [xsub r5 r1, xsub r6 r2]
    exact K
theorem X.callI {index n b Dc : Nat} {Yc : xM} {As st : List Value} {v : Option Value} {T T2 : xF} (d : decode Y.1.2.1 pc = .ok (.invokespecial index, 3)) (hct : Ct G Yc Dc T (.ref b :: As) (.inl v) T2) (hq : xCI Y.1.1.cls index Yc n) (hn : As.length = n) (hst : st = As.reverse ++ .ref b :: rest) (hrs : (rest.map fun v => v.category).sum ≤ 8)
    (hD : Dc + 1 ≤ Y.2.1.frames ∧ 64 * Dc + 64 ≤ Y.2.1.locals) (h2 : xle T T2) (h3 : xle T2 Y.2.2.2.2) (k : Xr G Y (pc + 3) L (v.toList ++ rest) T2) : Xr G Y pc L st T := by
  intro p l e s m args below meth c H locs ls hc hd hl
  have hc' := hc
  obtain ⟨hfl, hx, hb, -, -, hml, hown, hname, hts, hK, hSt, hsz0, hgb, -⟩ := hc
  obtain ⟨hsz, hrep, hS9, hd1, hd2, hdm, hd3⟩ := hd
  obtain ⟨⟨hq1, hq5, hq6, hq7, hq8, hq9⟩, hq2, hq3, hq4⟩ := hq
  subst hst
  have hM := hct h2 l hfl
  obtain ⟨y, cc, nL, ret, hh⟩ := Yc
  dsimp only at hq1 hq2 hq3 hq4 hq5 hq6 hq7 hq8 hq9
  subst hq2
  subst hq5
  have r1 := h2.1; have r2 := h2.2; have r3 := h3.1; have r4 := h3.2; have r5 := hd1.1; have r6 := hd1.2; have r7 := hd3.1; have r8 := hd3.2
  refine xgo (va_runI (Qc := fun _ st oc t => oc = .returned v ∧ (xW G T2 t ∧ xdm T T2) ∧ va_F (xAf G) st t) (free := xAf G) (As := As) (rest := rest) (n := n) ⟨hx, hb, hml, hown, hts⟩ hM (cwI n hts hq1 rfl rfl rfl (hts _ hq6) (hts _ hq7) (hts _ hq8) hq9 hq3 ⟨hD.1, ?_⟩) ⟨xblind, fun U hU hW => ⟨rfl, ?_⟩⟩ rfl hn hl.1 rfl (lv_room hrs) d ⟨?_, ?_⟩) hS9 fun H1 locs1 z1 hrep1 hS1 hdm1 => ?_
  · show 8 + (nL + 11) + 64 * Dc ≤ _
    omega
  · exact ⟨by rw [hU]; exact hsz, fun a cc hcc => by rw [hU]; exact (hrep a cc hcc).moved hW.alike, hK.warm hW, fun i q hq => by rw [hU]; exact (xZs.moved hW.alike (hSt i q hq)).kept hS9.2.1, Nat.le_trans hgb hd1.1⟩
  · rw [xsub r5 r1]; omega
  · rw [xsub r6 r2]; omega
  · have K := k p l e s m args below meth c H1 locs1 ls hc' ⟨z1, hrep1, hS1, xle.tr hd1 h2, h3, xdm.tr r5 hdm hdm1, hd3⟩ hl
    rw [xsub r5 r1, xsub r6 r2]
    exact K
theorem X.objInit {index a : Nat} {T : xF} (d : decode Y.1.2.1 pc = .ok (.invokespecial index, 3)) (hlk : Cond.methodLink Y.1.1.cls index Lib.objectInit ∈ lw_all) (hq1 : Cond.instanceMethod Lib.objectInit ∈ lw_all) (hq2 : Cond.code Lib.objectInit ⟨#[0xb1]⟩ 1 none ∈ lw_all) (hrs : (rest.map fun v => v.category).sum ≤ 8) (hD : 1 ≤ Y.2.1.frames ∧ 64 ≤ Y.2.1.locals) (k : Xr G Y (pc + 3) L rest T) : Xr G Y pc L (.ref a :: rest) T := by
  intro p l e s m args below meth c H locs ls hc hd hl
  have K := k p l e s m args below meth c H locs ls hc hd hl
  obtain ⟨hfl, hx, hb, -, -, hml, hown, hname, hts, -⟩ := hc
  exact W.objInit hx hb hown (hts _ hlk) (hts _ hq1) (hts _ hq2) rfl (hl.1.trans hml.symm) rfl d hD.1 (by show 2 * 0 + _ + 12 ≤ _; omega) K
end X1C
