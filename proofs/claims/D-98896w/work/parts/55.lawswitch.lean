/-! the switch of the law -/
set_option maxRecDepth 100000
/-- which command -/
def cmd (L : xL) (i : Int32) : Int32 := L.2.2.2.2 i.toNatClampNeg &&& 63
theorem sw_0 {G : xG} {Y : xR} {L : xL} {S : MS} {v : Nat → Int64} {T : xF} {r : Option Nat} {i : Int32} (hM : Y.1 = mL_law) (hL : LOK L) (hn : NN L T) (hi : vp_in i L.2.2.2.1) (h : cmd L i = 0) (kk : Xr G Y 220 (bL L r i) [] (LWo (lc L S v) T)) : Xr G Y 33 (bL L r i) [] (LWo (lc L S v) T) := by
  obtain ⟨M9, R9, T09, o9, T19⟩ := Y
  dsimp only at hM
  subst hM
  refine X.aload_n dL_law_33 rfl 0 rfl ?_
  refine X.iload dL_law_34 4 rfl ?_
  refine X.iald (f := L.2.2.2.2) (n := L.2.2.2.1) dL_law_36 (lc_s hL hn) hi ?_
  refine X.bipush (v := 63) dL_law_37 (by decide) ?_
  refine X.iand dL_law_39 ?_
  exact X.tableC (tgt := 220) h dL_law_40 (by decide) (by decide) rfl (by decide) kk
theorem sw_1 {G : xG} {Y : xR} {L : xL} {S : MS} {v : Nat → Int64} {T : xF} {r : Option Nat} {i : Int32} (hM : Y.1 = mL_law) (hL : LOK L) (hn : NN L T) (hi : vp_in i L.2.2.2.1) (h : cmd L i = 1) (kk : Xr G Y 293 (bL L r i) [] (LWo (lc L S v) T)) : Xr G Y 33 (bL L r i) [] (LWo (lc L S v) T) := by
  obtain ⟨M9, R9, T09, o9, T19⟩ := Y
  dsimp only at hM
  subst hM
  refine X.aload_n dL_law_33 rfl 0 rfl ?_
  refine X.iload dL_law_34 4 rfl ?_
  refine X.iald (f := L.2.2.2.2) (n := L.2.2.2.1) dL_law_36 (lc_s hL hn) hi ?_
  refine X.bipush (v := 63) dL_law_37 (by decide) ?_
  refine X.iand dL_law_39 ?_
  exact X.tableC (tgt := 293) h dL_law_40 (by decide) (by decide) rfl (by decide) kk
theorem sw_2 {G : xG} {Y : xR} {L : xL} {S : MS} {v : Nat → Int64} {T : xF} {r : Option Nat} {i : Int32} (hM : Y.1 = mL_law) (hL : LOK L) (hn : NN L T) (hi : vp_in i L.2.2.2.1) (h : cmd L i = 2) (kk : Xr G Y 349 (bL L r i) [] (LWo (lc L S v) T)) : Xr G Y 33 (bL L r i) [] (LWo (lc L S v) T) := by
  obtain ⟨M9, R9, T09, o9, T19⟩ := Y
  dsimp only at hM
  subst hM
  refine X.aload_n dL_law_33 rfl 0 rfl ?_
  refine X.iload dL_law_34 4 rfl ?_
  refine X.iald (f := L.2.2.2.2) (n := L.2.2.2.1) dL_law_36 (lc_s hL hn) hi ?_
  refine X.bipush (v := 63) dL_law_37 (by decide) ?_
  refine X.iand dL_law_39 ?_
  exact X.tableC (tgt := 349) h dL_law_40 (by decide) (by decide) rfl (by decide) kk
theorem sw_3 {G : xG} {Y : xR} {L : xL} {S : MS} {v : Nat → Int64} {T : xF} {r : Option Nat} {i : Int32} (hM : Y.1 = mL_law) (hL : LOK L) (hn : NN L T) (hi : vp_in i L.2.2.2.1) (h : cmd L i = 3) (kk : Xr G Y 362 (bL L r i) [] (LWo (lc L S v) T)) : Xr G Y 33 (bL L r i) [] (LWo (lc L S v) T) := by
  obtain ⟨M9, R9, T09, o9, T19⟩ := Y
  dsimp only at hM
  subst hM
  refine X.aload_n dL_law_33 rfl 0 rfl ?_
  refine X.iload dL_law_34 4 rfl ?_
  refine X.iald (f := L.2.2.2.2) (n := L.2.2.2.1) dL_law_36 (lc_s hL hn) hi ?_
  refine X.bipush (v := 63) dL_law_37 (by decide) ?_
  refine X.iand dL_law_39 ?_
  exact X.tableC (tgt := 362) h dL_law_40 (by decide) (by decide) rfl (by decide) kk
theorem sw_4 {G : xG} {Y : xR} {L : xL} {S : MS} {v : Nat → Int64} {T : xF} {r : Option Nat} {i : Int32} (hM : Y.1 = mL_law) (hL : LOK L) (hn : NN L T) (hi : vp_in i L.2.2.2.1) (h : cmd L i = 4) (kk : Xr G Y 418 (bL L r i) [] (LWo (lc L S v) T)) : Xr G Y 33 (bL L r i) [] (LWo (lc L S v) T) := by
  obtain ⟨M9, R9, T09, o9, T19⟩ := Y
  dsimp only at hM
  subst hM
  refine X.aload_n dL_law_33 rfl 0 rfl ?_
  refine X.iload dL_law_34 4 rfl ?_
  refine X.iald (f := L.2.2.2.2) (n := L.2.2.2.1) dL_law_36 (lc_s hL hn) hi ?_
  refine X.bipush (v := 63) dL_law_37 (by decide) ?_
  refine X.iand dL_law_39 ?_
  exact X.tableC (tgt := 418) h dL_law_40 (by decide) (by decide) rfl (by decide) kk
theorem sw_5 {G : xG} {Y : xR} {L : xL} {S : MS} {v : Nat → Int64} {T : xF} {r : Option Nat} {i : Int32} (hM : Y.1 = mL_law) (hL : LOK L) (hn : NN L T) (hi : vp_in i L.2.2.2.1) (h : cmd L i = 5) (kk : Xr G Y 486 (bL L r i) [] (LWo (lc L S v) T)) : Xr G Y 33 (bL L r i) [] (LWo (lc L S v) T) := by
  obtain ⟨M9, R9, T09, o9, T19⟩ := Y
  dsimp only at hM
  subst hM
  refine X.aload_n dL_law_33 rfl 0 rfl ?_
  refine X.iload dL_law_34 4 rfl ?_
  refine X.iald (f := L.2.2.2.2) (n := L.2.2.2.1) dL_law_36 (lc_s hL hn) hi ?_
  refine X.bipush (v := 63) dL_law_37 (by decide) ?_
  refine X.iand dL_law_39 ?_
  exact X.tableC (tgt := 486) h dL_law_40 (by decide) (by decide) rfl (by decide) kk
theorem sw_6 {G : xG} {Y : xR} {L : xL} {S : MS} {v : Nat → Int64} {T : xF} {r : Option Nat} {i : Int32} (hM : Y.1 = mL_law) (hL : LOK L) (hn : NN L T) (hi : vp_in i L.2.2.2.1) (h : cmd L i = 6) (kk : Xr G Y 542 (bL L r i) [] (LWo (lc L S v) T)) : Xr G Y 33 (bL L r i) [] (LWo (lc L S v) T) := by
  obtain ⟨M9, R9, T09, o9, T19⟩ := Y
  dsimp only at hM
  subst hM
  refine X.aload_n dL_law_33 rfl 0 rfl ?_
  refine X.iload dL_law_34 4 rfl ?_
  refine X.iald (f := L.2.2.2.2) (n := L.2.2.2.1) dL_law_36 (lc_s hL hn) hi ?_
  refine X.bipush (v := 63) dL_law_37 (by decide) ?_
  refine X.iand dL_law_39 ?_
  exact X.tableC (tgt := 542) h dL_law_40 (by decide) (by decide) rfl (by decide) kk
theorem sw_7 {G : xG} {Y : xR} {L : xL} {S : MS} {v : Nat → Int64} {T : xF} {r : Option Nat} {i : Int32} (hM : Y.1 = mL_law) (hL : LOK L) (hn : NN L T) (hi : vp_in i L.2.2.2.1) (h : cmd L i = 7) (kk : Xr G Y 598 (bL L r i) [] (LWo (lc L S v) T)) : Xr G Y 33 (bL L r i) [] (LWo (lc L S v) T) := by
  obtain ⟨M9, R9, T09, o9, T19⟩ := Y
  dsimp only at hM
  subst hM
  refine X.aload_n dL_law_33 rfl 0 rfl ?_
  refine X.iload dL_law_34 4 rfl ?_
  refine X.iald (f := L.2.2.2.2) (n := L.2.2.2.1) dL_law_36 (lc_s hL hn) hi ?_
  refine X.bipush (v := 63) dL_law_37 (by decide) ?_
  refine X.iand dL_law_39 ?_
  exact X.tableC (tgt := 598) h dL_law_40 (by decide) (by decide) rfl (by decide) kk
theorem sw_8 {G : xG} {Y : xR} {L : xL} {S : MS} {v : Nat → Int64} {T : xF} {r : Option Nat} {i : Int32} (hM : Y.1 = mL_law) (hL : LOK L) (hn : NN L T) (hi : vp_in i L.2.2.2.1) (h : cmd L i = 8) (kk : Xr G Y 623 (bL L r i) [] (LWo (lc L S v) T)) : Xr G Y 33 (bL L r i) [] (LWo (lc L S v) T) := by
  obtain ⟨M9, R9, T09, o9, T19⟩ := Y
  dsimp only at hM
  subst hM
  refine X.aload_n dL_law_33 rfl 0 rfl ?_
  refine X.iload dL_law_34 4 rfl ?_
  refine X.iald (f := L.2.2.2.2) (n := L.2.2.2.1) dL_law_36 (lc_s hL hn) hi ?_
  refine X.bipush (v := 63) dL_law_37 (by decide) ?_
  refine X.iand dL_law_39 ?_
  exact X.tableC (tgt := 623) h dL_law_40 (by decide) (by decide) rfl (by decide) kk
theorem sw_9 {G : xG} {Y : xR} {L : xL} {S : MS} {v : Nat → Int64} {T : xF} {r : Option Nat} {i : Int32} (hM : Y.1 = mL_law) (hL : LOK L) (hn : NN L T) (hi : vp_in i L.2.2.2.1) (h : cmd L i = 9) (kk : Xr G Y 691 (bL L r i) [] (LWo (lc L S v) T)) : Xr G Y 33 (bL L r i) [] (LWo (lc L S v) T) := by
  obtain ⟨M9, R9, T09, o9, T19⟩ := Y
  dsimp only at hM
  subst hM
  refine X.aload_n dL_law_33 rfl 0 rfl ?_
  refine X.iload dL_law_34 4 rfl ?_
  refine X.iald (f := L.2.2.2.2) (n := L.2.2.2.1) dL_law_36 (lc_s hL hn) hi ?_
  refine X.bipush (v := 63) dL_law_37 (by decide) ?_
  refine X.iand dL_law_39 ?_
  exact X.tableC (tgt := 691) h dL_law_40 (by decide) (by decide) rfl (by decide) kk
theorem sw_10 {G : xG} {Y : xR} {L : xL} {S : MS} {v : Nat → Int64} {T : xF} {r : Option Nat} {i : Int32} (hM : Y.1 = mL_law) (hL : LOK L) (hn : NN L T) (hi : vp_in i L.2.2.2.1) (h : cmd L i = 10) (kk : Xr G Y 759 (bL L r i) [] (LWo (lc L S v) T)) : Xr G Y 33 (bL L r i) [] (LWo (lc L S v) T) := by
  obtain ⟨M9, R9, T09, o9, T19⟩ := Y
  dsimp only at hM
  subst hM
  refine X.aload_n dL_law_33 rfl 0 rfl ?_
  refine X.iload dL_law_34 4 rfl ?_
  refine X.iald (f := L.2.2.2.2) (n := L.2.2.2.1) dL_law_36 (lc_s hL hn) hi ?_
  refine X.bipush (v := 63) dL_law_37 (by decide) ?_
  refine X.iand dL_law_39 ?_
  exact X.tableC (tgt := 759) h dL_law_40 (by decide) (by decide) rfl (by decide) kk
theorem sw_11 {G : xG} {Y : xR} {L : xL} {S : MS} {v : Nat → Int64} {T : xF} {r : Option Nat} {i : Int32} (hM : Y.1 = mL_law) (hL : LOK L) (hn : NN L T) (hi : vp_in i L.2.2.2.1) (h : cmd L i = 11) (kk : Xr G Y 834 (bL L r i) [] (LWo (lc L S v) T)) : Xr G Y 33 (bL L r i) [] (LWo (lc L S v) T) := by
  obtain ⟨M9, R9, T09, o9, T19⟩ := Y
  dsimp only at hM
  subst hM
  refine X.aload_n dL_law_33 rfl 0 rfl ?_
  refine X.iload dL_law_34 4 rfl ?_
  refine X.iald (f := L.2.2.2.2) (n := L.2.2.2.1) dL_law_36 (lc_s hL hn) hi ?_
  refine X.bipush (v := 63) dL_law_37 (by decide) ?_
  refine X.iand dL_law_39 ?_
  exact X.tableC (tgt := 834) h dL_law_40 (by decide) (by decide) rfl (by decide) kk
theorem sw_12 {G : xG} {Y : xR} {L : xL} {S : MS} {v : Nat → Int64} {T : xF} {r : Option Nat} {i : Int32} (hM : Y.1 = mL_law) (hL : LOK L) (hn : NN L T) (hi : vp_in i L.2.2.2.1) (h : cmd L i = 12) (kk : Xr G Y 890 (bL L r i) [] (LWo (lc L S v) T)) : Xr G Y 33 (bL L r i) [] (LWo (lc L S v) T) := by
  obtain ⟨M9, R9, T09, o9, T19⟩ := Y
  dsimp only at hM
  subst hM
  refine X.aload_n dL_law_33 rfl 0 rfl ?_
  refine X.iload dL_law_34 4 rfl ?_
  refine X.iald (f := L.2.2.2.2) (n := L.2.2.2.1) dL_law_36 (lc_s hL hn) hi ?_
  refine X.bipush (v := 63) dL_law_37 (by decide) ?_
  refine X.iand dL_law_39 ?_
  exact X.tableC (tgt := 890) h dL_law_40 (by decide) (by decide) rfl (by decide) kk
theorem sw_13 {G : xG} {Y : xR} {L : xL} {S : MS} {v : Nat → Int64} {T : xF} {r : Option Nat} {i : Int32} (hM : Y.1 = mL_law) (hL : LOK L) (hn : NN L T) (hi : vp_in i L.2.2.2.1) (h : cmd L i = 13) (kk : Xr G Y 903 (bL L r i) [] (LWo (lc L S v) T)) : Xr G Y 33 (bL L r i) [] (LWo (lc L S v) T) := by
  obtain ⟨M9, R9, T09, o9, T19⟩ := Y
  dsimp only at hM
  subst hM
  refine X.aload_n dL_law_33 rfl 0 rfl ?_
  refine X.iload dL_law_34 4 rfl ?_
  refine X.iald (f := L.2.2.2.2) (n := L.2.2.2.1) dL_law_36 (lc_s hL hn) hi ?_
  refine X.bipush (v := 63) dL_law_37 (by decide) ?_
  refine X.iand dL_law_39 ?_
  exact X.tableC (tgt := 903) h dL_law_40 (by decide) (by decide) rfl (by decide) kk
theorem sw_14 {G : xG} {Y : xR} {L : xL} {S : MS} {v : Nat → Int64} {T : xF} {r : Option Nat} {i : Int32} (hM : Y.1 = mL_law) (hL : LOK L) (hn : NN L T) (hi : vp_in i L.2.2.2.1) (h : cmd L i = 14) (kk : Xr G Y 983 (bL L r i) [] (LWo (lc L S v) T)) : Xr G Y 33 (bL L r i) [] (LWo (lc L S v) T) := by
  obtain ⟨M9, R9, T09, o9, T19⟩ := Y
  dsimp only at hM
  subst hM
  refine X.aload_n dL_law_33 rfl 0 rfl ?_
  refine X.iload dL_law_34 4 rfl ?_
  refine X.iald (f := L.2.2.2.2) (n := L.2.2.2.1) dL_law_36 (lc_s hL hn) hi ?_
  refine X.bipush (v := 63) dL_law_37 (by decide) ?_
  refine X.iand dL_law_39 ?_
  exact X.tableC (tgt := 983) h dL_law_40 (by decide) (by decide) rfl (by decide) kk
theorem sw_15 {G : xG} {Y : xR} {L : xL} {S : MS} {v : Nat → Int64} {T : xF} {r : Option Nat} {i : Int32} (hM : Y.1 = mL_law) (hL : LOK L) (hn : NN L T) (hi : vp_in i L.2.2.2.1) (h : cmd L i = 15) (kk : Xr G Y 1051 (bL L r i) [] (LWo (lc L S v) T)) : Xr G Y 33 (bL L r i) [] (LWo (lc L S v) T) := by
  obtain ⟨M9, R9, T09, o9, T19⟩ := Y
  dsimp only at hM
  subst hM
  refine X.aload_n dL_law_33 rfl 0 rfl ?_
  refine X.iload dL_law_34 4 rfl ?_
  refine X.iald (f := L.2.2.2.2) (n := L.2.2.2.1) dL_law_36 (lc_s hL hn) hi ?_
  refine X.bipush (v := 63) dL_law_37 (by decide) ?_
  refine X.iand dL_law_39 ?_
  exact X.tableC (tgt := 1051) h dL_law_40 (by decide) (by decide) rfl (by decide) kk
theorem sw_16 {G : xG} {Y : xR} {L : xL} {S : MS} {v : Nat → Int64} {T : xF} {r : Option Nat} {i : Int32} (hM : Y.1 = mL_law) (hL : LOK L) (hn : NN L T) (hi : vp_in i L.2.2.2.1) (h : cmd L i = 16) (kk : Xr G Y 1107 (bL L r i) [] (LWo (lc L S v) T)) : Xr G Y 33 (bL L r i) [] (LWo (lc L S v) T) := by
  obtain ⟨M9, R9, T09, o9, T19⟩ := Y
  dsimp only at hM
  subst hM
  refine X.aload_n dL_law_33 rfl 0 rfl ?_
  refine X.iload dL_law_34 4 rfl ?_
  refine X.iald (f := L.2.2.2.2) (n := L.2.2.2.1) dL_law_36 (lc_s hL hn) hi ?_
  refine X.bipush (v := 63) dL_law_37 (by decide) ?_
  refine X.iand dL_law_39 ?_
  exact X.tableC (tgt := 1107) h dL_law_40 (by decide) (by decide) rfl (by decide) kk
theorem sw_17 {G : xG} {Y : xR} {L : xL} {S : MS} {v : Nat → Int64} {T : xF} {r : Option Nat} {i : Int32} (hM : Y.1 = mL_law) (hL : LOK L) (hn : NN L T) (hi : vp_in i L.2.2.2.1) (h : cmd L i = 17) (kk : Xr G Y 1163 (bL L r i) [] (LWo (lc L S v) T)) : Xr G Y 33 (bL L r i) [] (LWo (lc L S v) T) := by
  obtain ⟨M9, R9, T09, o9, T19⟩ := Y
  dsimp only at hM
  subst hM
  refine X.aload_n dL_law_33 rfl 0 rfl ?_
  refine X.iload dL_law_34 4 rfl ?_
  refine X.iald (f := L.2.2.2.2) (n := L.2.2.2.1) dL_law_36 (lc_s hL hn) hi ?_
  refine X.bipush (v := 63) dL_law_37 (by decide) ?_
  refine X.iand dL_law_39 ?_
  exact X.tableC (tgt := 1163) h dL_law_40 (by decide) (by decide) rfl (by decide) kk
theorem sw_18 {G : xG} {Y : xR} {L : xL} {S : MS} {v : Nat → Int64} {T : xF} {r : Option Nat} {i : Int32} (hM : Y.1 = mL_law) (hL : LOK L) (hn : NN L T) (hi : vp_in i L.2.2.2.1) (h : cmd L i = 18) (kk : Xr G Y 1176 (bL L r i) [] (LWo (lc L S v) T)) : Xr G Y 33 (bL L r i) [] (LWo (lc L S v) T) := by
  obtain ⟨M9, R9, T09, o9, T19⟩ := Y
  dsimp only at hM
  subst hM
  refine X.aload_n dL_law_33 rfl 0 rfl ?_
  refine X.iload dL_law_34 4 rfl ?_
  refine X.iald (f := L.2.2.2.2) (n := L.2.2.2.1) dL_law_36 (lc_s hL hn) hi ?_
  refine X.bipush (v := 63) dL_law_37 (by decide) ?_
  refine X.iand dL_law_39 ?_
  exact X.tableC (tgt := 1176) h dL_law_40 (by decide) (by decide) rfl (by decide) kk
theorem sw_19 {G : xG} {Y : xR} {L : xL} {S : MS} {v : Nat → Int64} {T : xF} {r : Option Nat} {i : Int32} (hM : Y.1 = mL_law) (hL : LOK L) (hn : NN L T) (hi : vp_in i L.2.2.2.1) (h : cmd L i = 19) (kk : Xr G Y 1256 (bL L r i) [] (LWo (lc L S v) T)) : Xr G Y 33 (bL L r i) [] (LWo (lc L S v) T) := by
  obtain ⟨M9, R9, T09, o9, T19⟩ := Y
  dsimp only at hM
  subst hM
  refine X.aload_n dL_law_33 rfl 0 rfl ?_
  refine X.iload dL_law_34 4 rfl ?_
  refine X.iald (f := L.2.2.2.2) (n := L.2.2.2.1) dL_law_36 (lc_s hL hn) hi ?_
  refine X.bipush (v := 63) dL_law_37 (by decide) ?_
  refine X.iand dL_law_39 ?_
  exact X.tableC (tgt := 1256) h dL_law_40 (by decide) (by decide) rfl (by decide) kk
theorem sw_20 {G : xG} {Y : xR} {L : xL} {S : MS} {v : Nat → Int64} {T : xF} {r : Option Nat} {i : Int32} (hM : Y.1 = mL_law) (hL : LOK L) (hn : NN L T) (hi : vp_in i L.2.2.2.1) (h : cmd L i = 20) (kk : Xr G Y 1324 (bL L r i) [] (LWo (lc L S v) T)) : Xr G Y 33 (bL L r i) [] (LWo (lc L S v) T) := by
  obtain ⟨M9, R9, T09, o9, T19⟩ := Y
  dsimp only at hM
  subst hM
  refine X.aload_n dL_law_33 rfl 0 rfl ?_
  refine X.iload dL_law_34 4 rfl ?_
  refine X.iald (f := L.2.2.2.2) (n := L.2.2.2.1) dL_law_36 (lc_s hL hn) hi ?_
  refine X.bipush (v := 63) dL_law_37 (by decide) ?_
  refine X.iand dL_law_39 ?_
  exact X.tableC (tgt := 1324) h dL_law_40 (by decide) (by decide) rfl (by decide) kk
theorem sw_21 {G : xG} {Y : xR} {L : xL} {S : MS} {v : Nat → Int64} {T : xF} {r : Option Nat} {i : Int32} (hM : Y.1 = mL_law) (hL : LOK L) (hn : NN L T) (hi : vp_in i L.2.2.2.1) (h : cmd L i = 21) (kk : Xr G Y 1392 (bL L r i) [] (LWo (lc L S v) T)) : Xr G Y 33 (bL L r i) [] (LWo (lc L S v) T) := by
  obtain ⟨M9, R9, T09, o9, T19⟩ := Y
  dsimp only at hM
  subst hM
  refine X.aload_n dL_law_33 rfl 0 rfl ?_
  refine X.iload dL_law_34 4 rfl ?_
  refine X.iald (f := L.2.2.2.2) (n := L.2.2.2.1) dL_law_36 (lc_s hL hn) hi ?_
  refine X.bipush (v := 63) dL_law_37 (by decide) ?_
  refine X.iand dL_law_39 ?_
  exact X.tableC (tgt := 1392) h dL_law_40 (by decide) (by decide) rfl (by decide) kk
theorem sw_22 {G : xG} {Y : xR} {L : xL} {S : MS} {v : Nat → Int64} {T : xF} {r : Option Nat} {i : Int32} (hM : Y.1 = mL_law) (hL : LOK L) (hn : NN L T) (hi : vp_in i L.2.2.2.1) (h : cmd L i = 22) (kk : Xr G Y 1405 (bL L r i) [] (LWo (lc L S v) T)) : Xr G Y 33 (bL L r i) [] (LWo (lc L S v) T) := by
  obtain ⟨M9, R9, T09, o9, T19⟩ := Y
  dsimp only at hM
  subst hM
  refine X.aload_n dL_law_33 rfl 0 rfl ?_
  refine X.iload dL_law_34 4 rfl ?_
  refine X.iald (f := L.2.2.2.2) (n := L.2.2.2.1) dL_law_36 (lc_s hL hn) hi ?_
  refine X.bipush (v := 63) dL_law_37 (by decide) ?_
  refine X.iand dL_law_39 ?_
  exact X.tableC (tgt := 1405) h dL_law_40 (by decide) (by decide) rfl (by decide) kk
theorem sw_23 {G : xG} {Y : xR} {L : xL} {S : MS} {v : Nat → Int64} {T : xF} {r : Option Nat} {i : Int32} (hM : Y.1 = mL_law) (hL : LOK L) (hn : NN L T) (hi : vp_in i L.2.2.2.1) (h : cmd L i = 23) (kk : Xr G Y 1418 (bL L r i) [] (LWo (lc L S v) T)) : Xr G Y 33 (bL L r i) [] (LWo (lc L S v) T) := by
  obtain ⟨M9, R9, T09, o9, T19⟩ := Y
  dsimp only at hM
  subst hM
  refine X.aload_n dL_law_33 rfl 0 rfl ?_
  refine X.iload dL_law_34 4 rfl ?_
  refine X.iald (f := L.2.2.2.2) (n := L.2.2.2.1) dL_law_36 (lc_s hL hn) hi ?_
  refine X.bipush (v := 63) dL_law_37 (by decide) ?_
  refine X.iand dL_law_39 ?_
  exact X.tableC (tgt := 1418) h dL_law_40 (by decide) (by decide) rfl (by decide) kk
theorem sw_24 {G : xG} {Y : xR} {L : xL} {S : MS} {v : Nat → Int64} {T : xF} {r : Option Nat} {i : Int32} (hM : Y.1 = mL_law) (hL : LOK L) (hn : NN L T) (hi : vp_in i L.2.2.2.1) (h : cmd L i = 24) (kk : Xr G Y 1474 (bL L r i) [] (LWo (lc L S v) T)) : Xr G Y 33 (bL L r i) [] (LWo (lc L S v) T) := by
  obtain ⟨M9, R9, T09, o9, T19⟩ := Y
  dsimp only at hM
  subst hM
  refine X.aload_n dL_law_33 rfl 0 rfl ?_
  refine X.iload dL_law_34 4 rfl ?_
  refine X.iald (f := L.2.2.2.2) (n := L.2.2.2.1) dL_law_36 (lc_s hL hn) hi ?_
  refine X.bipush (v := 63) dL_law_37 (by decide) ?_
  refine X.iand dL_law_39 ?_
  exact X.tableC (tgt := 1474) h dL_law_40 (by decide) (by decide) rfl (by decide) kk
theorem sw_25 {G : xG} {Y : xR} {L : xL} {S : MS} {v : Nat → Int64} {T : xF} {r : Option Nat} {i : Int32} (hM : Y.1 = mL_law) (hL : LOK L) (hn : NN L T) (hi : vp_in i L.2.2.2.1) (h : cmd L i = 25) (kk : Xr G Y 1554 (bL L r i) [] (LWo (lc L S v) T)) : Xr G Y 33 (bL L r i) [] (LWo (lc L S v) T) := by
  obtain ⟨M9, R9, T09, o9, T19⟩ := Y
  dsimp only at hM
  subst hM
  refine X.aload_n dL_law_33 rfl 0 rfl ?_
  refine X.iload dL_law_34 4 rfl ?_
  refine X.iald (f := L.2.2.2.2) (n := L.2.2.2.1) dL_law_36 (lc_s hL hn) hi ?_
  refine X.bipush (v := 63) dL_law_37 (by decide) ?_
  refine X.iand dL_law_39 ?_
  exact X.tableC (tgt := 1554) h dL_law_40 (by decide) (by decide) rfl (by decide) kk
theorem sw_26 {G : xG} {Y : xR} {L : xL} {S : MS} {v : Nat → Int64} {T : xF} {r : Option Nat} {i : Int32} (hM : Y.1 = mL_law) (hL : LOK L) (hn : NN L T) (hi : vp_in i L.2.2.2.1) (h : cmd L i = 26) (kk : Xr G Y 1565 (bL L r i) [] (LWo (lc L S v) T)) : Xr G Y 33 (bL L r i) [] (LWo (lc L S v) T) := by
  obtain ⟨M9, R9, T09, o9, T19⟩ := Y
  dsimp only at hM
  subst hM
  refine X.aload_n dL_law_33 rfl 0 rfl ?_
  refine X.iload dL_law_34 4 rfl ?_
  refine X.iald (f := L.2.2.2.2) (n := L.2.2.2.1) dL_law_36 (lc_s hL hn) hi ?_
  refine X.bipush (v := 63) dL_law_37 (by decide) ?_
  refine X.iand dL_law_39 ?_
  exact X.tableC (tgt := 1565) h dL_law_40 (by decide) (by decide) rfl (by decide) kk
theorem sw_27 {G : xG} {Y : xR} {L : xL} {S : MS} {v : Nat → Int64} {T : xF} {r : Option Nat} {i : Int32} (hM : Y.1 = mL_law) (hL : LOK L) (hn : NN L T) (hi : vp_in i L.2.2.2.1) (h : cmd L i = 27) (kk : Xr G Y 1621 (bL L r i) [] (LWo (lc L S v) T)) : Xr G Y 33 (bL L r i) [] (LWo (lc L S v) T) := by
  obtain ⟨M9, R9, T09, o9, T19⟩ := Y
  dsimp only at hM
  subst hM
  refine X.aload_n dL_law_33 rfl 0 rfl ?_
  refine X.iload dL_law_34 4 rfl ?_
  refine X.iald (f := L.2.2.2.2) (n := L.2.2.2.1) dL_law_36 (lc_s hL hn) hi ?_
  refine X.bipush (v := 63) dL_law_37 (by decide) ?_
  refine X.iand dL_law_39 ?_
  exact X.tableC (tgt := 1621) h dL_law_40 (by decide) (by decide) rfl (by decide) kk
theorem sw_28 {G : xG} {Y : xR} {L : xL} {S : MS} {v : Nat → Int64} {T : xF} {r : Option Nat} {i : Int32} (hM : Y.1 = mL_law) (hL : LOK L) (hn : NN L T) (hi : vp_in i L.2.2.2.1) (h : cmd L i = 28) (kk : Xr G Y 1677 (bL L r i) [] (LWo (lc L S v) T)) : Xr G Y 33 (bL L r i) [] (LWo (lc L S v) T) := by
  obtain ⟨M9, R9, T09, o9, T19⟩ := Y
  dsimp only at hM
  subst hM
  refine X.aload_n dL_law_33 rfl 0 rfl ?_
  refine X.iload dL_law_34 4 rfl ?_
  refine X.iald (f := L.2.2.2.2) (n := L.2.2.2.1) dL_law_36 (lc_s hL hn) hi ?_
  refine X.bipush (v := 63) dL_law_37 (by decide) ?_
  refine X.iand dL_law_39 ?_
  exact X.tableC (tgt := 1677) h dL_law_40 (by decide) (by decide) rfl (by decide) kk
theorem sw_29 {G : xG} {Y : xR} {L : xL} {S : MS} {v : Nat → Int64} {T : xF} {r : Option Nat} {i : Int32} (hM : Y.1 = mL_law) (hL : LOK L) (hn : NN L T) (hi : vp_in i L.2.2.2.1) (h : cmd L i = 29) (kk : Xr G Y 1757 (bL L r i) [] (LWo (lc L S v) T)) : Xr G Y 33 (bL L r i) [] (LWo (lc L S v) T) := by
  obtain ⟨M9, R9, T09, o9, T19⟩ := Y
  dsimp only at hM
  subst hM
  refine X.aload_n dL_law_33 rfl 0 rfl ?_
  refine X.iload dL_law_34 4 rfl ?_
  refine X.iald (f := L.2.2.2.2) (n := L.2.2.2.1) dL_law_36 (lc_s hL hn) hi ?_
  refine X.bipush (v := 63) dL_law_37 (by decide) ?_
  refine X.iand dL_law_39 ?_
  exact X.tableC (tgt := 1757) h dL_law_40 (by decide) (by decide) rfl (by decide) kk
theorem sw_30 {G : xG} {Y : xR} {L : xL} {S : MS} {v : Nat → Int64} {T : xF} {r : Option Nat} {i : Int32} (hM : Y.1 = mL_law) (hL : LOK L) (hn : NN L T) (hi : vp_in i L.2.2.2.1) (h : cmd L i = 30) (kk : Xr G Y 1837 (bL L r i) [] (LWo (lc L S v) T)) : Xr G Y 33 (bL L r i) [] (LWo (lc L S v) T) := by
  obtain ⟨M9, R9, T09, o9, T19⟩ := Y
  dsimp only at hM
  subst hM
  refine X.aload_n dL_law_33 rfl 0 rfl ?_
  refine X.iload dL_law_34 4 rfl ?_
  refine X.iald (f := L.2.2.2.2) (n := L.2.2.2.1) dL_law_36 (lc_s hL hn) hi ?_
  refine X.bipush (v := 63) dL_law_37 (by decide) ?_
  refine X.iand dL_law_39 ?_
  exact X.tableC (tgt := 1837) h dL_law_40 (by decide) (by decide) rfl (by decide) kk
theorem sw_31 {G : xG} {Y : xR} {L : xL} {S : MS} {v : Nat → Int64} {T : xF} {r : Option Nat} {i : Int32} (hM : Y.1 = mL_law) (hL : LOK L) (hn : NN L T) (hi : vp_in i L.2.2.2.1) (h : cmd L i = 31) (kk : Xr G Y 1917 (bL L r i) [] (LWo (lc L S v) T)) : Xr G Y 33 (bL L r i) [] (LWo (lc L S v) T) := by
  obtain ⟨M9, R9, T09, o9, T19⟩ := Y
  dsimp only at hM
  subst hM
  refine X.aload_n dL_law_33 rfl 0 rfl ?_
  refine X.iload dL_law_34 4 rfl ?_
  refine X.iald (f := L.2.2.2.2) (n := L.2.2.2.1) dL_law_36 (lc_s hL hn) hi ?_
  refine X.bipush (v := 63) dL_law_37 (by decide) ?_
  refine X.iand dL_law_39 ?_
  exact X.tableC (tgt := 1917) h dL_law_40 (by decide) (by decide) rfl (by decide) kk
theorem sw_32 {G : xG} {Y : xR} {L : xL} {S : MS} {v : Nat → Int64} {T : xF} {r : Option Nat} {i : Int32} (hM : Y.1 = mL_law) (hL : LOK L) (hn : NN L T) (hi : vp_in i L.2.2.2.1) (h : cmd L i = 32) (kk : Xr G Y 1973 (bL L r i) [] (LWo (lc L S v) T)) : Xr G Y 33 (bL L r i) [] (LWo (lc L S v) T) := by
  obtain ⟨M9, R9, T09, o9, T19⟩ := Y
  dsimp only at hM
  subst hM
  refine X.aload_n dL_law_33 rfl 0 rfl ?_
  refine X.iload dL_law_34 4 rfl ?_
  refine X.iald (f := L.2.2.2.2) (n := L.2.2.2.1) dL_law_36 (lc_s hL hn) hi ?_
  refine X.bipush (v := 63) dL_law_37 (by decide) ?_
  refine X.iand dL_law_39 ?_
  exact X.tableC (tgt := 1973) h dL_law_40 (by decide) (by decide) rfl (by decide) kk
theorem sw_33 {G : xG} {Y : xR} {L : xL} {S : MS} {v : Nat → Int64} {T : xF} {r : Option Nat} {i : Int32} (hM : Y.1 = mL_law) (hL : LOK L) (hn : NN L T) (hi : vp_in i L.2.2.2.1) (h : cmd L i = 33) (kk : Xr G Y 2029 (bL L r i) [] (LWo (lc L S v) T)) : Xr G Y 33 (bL L r i) [] (LWo (lc L S v) T) := by
  obtain ⟨M9, R9, T09, o9, T19⟩ := Y
  dsimp only at hM
  subst hM
  refine X.aload_n dL_law_33 rfl 0 rfl ?_
  refine X.iload dL_law_34 4 rfl ?_
  refine X.iald (f := L.2.2.2.2) (n := L.2.2.2.1) dL_law_36 (lc_s hL hn) hi ?_
  refine X.bipush (v := 63) dL_law_37 (by decide) ?_
  refine X.iand dL_law_39 ?_
  exact X.tableC (tgt := 2029) h dL_law_40 (by decide) (by decide) rfl (by decide) kk
theorem sw_34 {G : xG} {Y : xR} {L : xL} {S : MS} {v : Nat → Int64} {T : xF} {r : Option Nat} {i : Int32} (hM : Y.1 = mL_law) (hL : LOK L) (hn : NN L T) (hi : vp_in i L.2.2.2.1) (h : cmd L i = 34) (kk : Xr G Y 2085 (bL L r i) [] (LWo (lc L S v) T)) : Xr G Y 33 (bL L r i) [] (LWo (lc L S v) T) := by
  obtain ⟨M9, R9, T09, o9, T19⟩ := Y
  dsimp only at hM
  subst hM
  refine X.aload_n dL_law_33 rfl 0 rfl ?_
  refine X.iload dL_law_34 4 rfl ?_
  refine X.iald (f := L.2.2.2.2) (n := L.2.2.2.1) dL_law_36 (lc_s hL hn) hi ?_
  refine X.bipush (v := 63) dL_law_37 (by decide) ?_
  refine X.iand dL_law_39 ?_
  exact X.tableC (tgt := 2085) h dL_law_40 (by decide) (by decide) rfl (by decide) kk
theorem sw_35 {G : xG} {Y : xR} {L : xL} {S : MS} {v : Nat → Int64} {T : xF} {r : Option Nat} {i : Int32} (hM : Y.1 = mL_law) (hL : LOK L) (hn : NN L T) (hi : vp_in i L.2.2.2.1) (h : cmd L i = 35) (kk : Xr G Y 2141 (bL L r i) [] (LWo (lc L S v) T)) : Xr G Y 33 (bL L r i) [] (LWo (lc L S v) T) := by
  obtain ⟨M9, R9, T09, o9, T19⟩ := Y
  dsimp only at hM
  subst hM
  refine X.aload_n dL_law_33 rfl 0 rfl ?_
  refine X.iload dL_law_34 4 rfl ?_
  refine X.iald (f := L.2.2.2.2) (n := L.2.2.2.1) dL_law_36 (lc_s hL hn) hi ?_
  refine X.bipush (v := 63) dL_law_37 (by decide) ?_
  refine X.iand dL_law_39 ?_
  exact X.tableC (tgt := 2141) h dL_law_40 (by decide) (by decide) rfl (by decide) kk
theorem sw_36 {G : xG} {Y : xR} {L : xL} {S : MS} {v : Nat → Int64} {T : xF} {r : Option Nat} {i : Int32} (hM : Y.1 = mL_law) (hL : LOK L) (hn : NN L T) (hi : vp_in i L.2.2.2.1) (h : cmd L i = 36) (kk : Xr G Y 2197 (bL L r i) [] (LWo (lc L S v) T)) : Xr G Y 33 (bL L r i) [] (LWo (lc L S v) T) := by
  obtain ⟨M9, R9, T09, o9, T19⟩ := Y
  dsimp only at hM
  subst hM
  refine X.aload_n dL_law_33 rfl 0 rfl ?_
  refine X.iload dL_law_34 4 rfl ?_
  refine X.iald (f := L.2.2.2.2) (n := L.2.2.2.1) dL_law_36 (lc_s hL hn) hi ?_
  refine X.bipush (v := 63) dL_law_37 (by decide) ?_
  refine X.iand dL_law_39 ?_
  exact X.tableC (tgt := 2197) h dL_law_40 (by decide) (by decide) rfl (by decide) kk
theorem sw_37 {G : xG} {Y : xR} {L : xL} {S : MS} {v : Nat → Int64} {T : xF} {r : Option Nat} {i : Int32} (hM : Y.1 = mL_law) (hL : LOK L) (hn : NN L T) (hi : vp_in i L.2.2.2.1) (h : cmd L i = 37) (kk : Xr G Y 2265 (bL L r i) [] (LWo (lc L S v) T)) : Xr G Y 33 (bL L r i) [] (LWo (lc L S v) T) := by
  obtain ⟨M9, R9, T09, o9, T19⟩ := Y
  dsimp only at hM
  subst hM
  refine X.aload_n dL_law_33 rfl 0 rfl ?_
  refine X.iload dL_law_34 4 rfl ?_
  refine X.iald (f := L.2.2.2.2) (n := L.2.2.2.1) dL_law_36 (lc_s hL hn) hi ?_
  refine X.bipush (v := 63) dL_law_37 (by decide) ?_
  refine X.iand dL_law_39 ?_
  exact X.tableC (tgt := 2265) h dL_law_40 (by decide) (by decide) rfl (by decide) kk
theorem sw_38 {G : xG} {Y : xR} {L : xL} {S : MS} {v : Nat → Int64} {T : xF} {r : Option Nat} {i : Int32} (hM : Y.1 = mL_law) (hL : LOK L) (hn : NN L T) (hi : vp_in i L.2.2.2.1) (h : cmd L i = 38) (kk : Xr G Y 2321 (bL L r i) [] (LWo (lc L S v) T)) : Xr G Y 33 (bL L r i) [] (LWo (lc L S v) T) := by
  obtain ⟨M9, R9, T09, o9, T19⟩ := Y
  dsimp only at hM
  subst hM
  refine X.aload_n dL_law_33 rfl 0 rfl ?_
  refine X.iload dL_law_34 4 rfl ?_
  refine X.iald (f := L.2.2.2.2) (n := L.2.2.2.1) dL_law_36 (lc_s hL hn) hi ?_
  refine X.bipush (v := 63) dL_law_37 (by decide) ?_
  refine X.iand dL_law_39 ?_
  exact X.tableC (tgt := 2321) h dL_law_40 (by decide) (by decide) rfl (by decide) kk
theorem sw_39 {G : xG} {Y : xR} {L : xL} {S : MS} {v : Nat → Int64} {T : xF} {r : Option Nat} {i : Int32} (hM : Y.1 = mL_law) (hL : LOK L) (hn : NN L T) (hi : vp_in i L.2.2.2.1) (h : cmd L i = 39) (kk : Xr G Y 2389 (bL L r i) [] (LWo (lc L S v) T)) : Xr G Y 33 (bL L r i) [] (LWo (lc L S v) T) := by
  obtain ⟨M9, R9, T09, o9, T19⟩ := Y
  dsimp only at hM
  subst hM
  refine X.aload_n dL_law_33 rfl 0 rfl ?_
  refine X.iload dL_law_34 4 rfl ?_
  refine X.iald (f := L.2.2.2.2) (n := L.2.2.2.1) dL_law_36 (lc_s hL hn) hi ?_
  refine X.bipush (v := 63) dL_law_37 (by decide) ?_
  refine X.iand dL_law_39 ?_
  exact X.tableC (tgt := 2389) h dL_law_40 (by decide) (by decide) rfl (by decide) kk
theorem sw_40 {G : xG} {Y : xR} {L : xL} {S : MS} {v : Nat → Int64} {T : xF} {r : Option Nat} {i : Int32} (hM : Y.1 = mL_law) (hL : LOK L) (hn : NN L T) (hi : vp_in i L.2.2.2.1) (h : cmd L i = 40) (kk : Xr G Y 2400 (bL L r i) [] (LWo (lc L S v) T)) : Xr G Y 33 (bL L r i) [] (LWo (lc L S v) T) := by
  obtain ⟨M9, R9, T09, o9, T19⟩ := Y
  dsimp only at hM
  subst hM
  refine X.aload_n dL_law_33 rfl 0 rfl ?_
  refine X.iload dL_law_34 4 rfl ?_
  refine X.iald (f := L.2.2.2.2) (n := L.2.2.2.1) dL_law_36 (lc_s hL hn) hi ?_
  refine X.bipush (v := 63) dL_law_37 (by decide) ?_
  refine X.iand dL_law_39 ?_
  exact X.tableC (tgt := 2400) h dL_law_40 (by decide) (by decide) rfl (by decide) kk
theorem sw_d {G : xG} {Y : xR} {L : xL} {S : MS} {v : Nat → Int64} {T : xF} {r : Option Nat} {i : Int32} (hM : Y.1 = mL_law) (hL : LOK L) (hn : NN L T) (hi : vp_in i L.2.2.2.1) (h0 : ¬ cmd L i = 0) (h1 : ¬ cmd L i = 1) (h2 : ¬ cmd L i = 2) (h3 : ¬ cmd L i = 3) (h4 : ¬ cmd L i = 4) (h5 : ¬ cmd L i = 5) (h6 : ¬ cmd L i = 6) (h7 : ¬ cmd L i = 7) (h8 : ¬ cmd L i = 8) (h9 : ¬ cmd L i = 9) (h10 : ¬ cmd L i = 10) (h11 : ¬ cmd L i = 11) (h12 : ¬ cmd L i = 12) (h13 : ¬ cmd L i = 13) (h14 : ¬ cmd L i = 14) (h15 : ¬ cmd L i = 15) (h16 : ¬ cmd L i = 16) (h17 : ¬ cmd L i = 17) (h18 : ¬ cmd L i = 18) (h19 : ¬ cmd L i = 19) (h20 : ¬ cmd L i = 20) (h21 : ¬ cmd L i = 21) (h22 : ¬ cmd L i = 22) (h23 : ¬ cmd L i = 23) (h24 : ¬ cmd L i = 24) (h25 : ¬ cmd L i = 25) (h26 : ¬ cmd L i = 26) (h27 : ¬ cmd L i = 27) (h28 : ¬ cmd L i = 28) (h29 : ¬ cmd L i = 29) (h30 : ¬ cmd L i = 30) (h31 : ¬ cmd L i = 31) (h32 : ¬ cmd L i = 32) (h33 : ¬ cmd L i = 33) (h34 : ¬ cmd L i = 34) (h35 : ¬ cmd L i = 35) (h36 : ¬ cmd L i = 36) (h37 : ¬ cmd L i = 37) (h38 : ¬ cmd L i = 38) (h39 : ¬ cmd L i = 39) (h40 : ¬ cmd L i = 40) (kk : Xr G Y 2413 (bL L r i) [] (LWo (lc L S v) T)) : Xr G Y 33 (bL L r i) [] (LWo (lc L S v) T) := by
  obtain ⟨M9, R9, T09, o9, T19⟩ := Y
  dsimp only at hM
  subst hM
  refine X.aload_n dL_law_33 rfl 0 rfl ?_
  refine X.iload dL_law_34 4 rfl ?_
  refine X.iald (f := L.2.2.2.2) (n := L.2.2.2.1) dL_law_36 (lc_s hL hn) hi ?_
  refine X.bipush (v := 63) dL_law_37 (by decide) ?_
  refine X.iand dL_law_39 ?_
  have t0 := lv_neT (a := 0) h0 rfl
  have t1 := lv_neT (a := 1) h1 rfl
  have t2 := lv_neT (a := 2) h2 rfl
  have t3 := lv_neT (a := 3) h3 rfl
  have t4 := lv_neT (a := 4) h4 rfl
  have t5 := lv_neT (a := 5) h5 rfl
  have t6 := lv_neT (a := 6) h6 rfl
  have t7 := lv_neT (a := 7) h7 rfl
  have t8 := lv_neT (a := 8) h8 rfl
  have t9 := lv_neT (a := 9) h9 rfl
  have t10 := lv_neT (a := 10) h10 rfl
  have t11 := lv_neT (a := 11) h11 rfl
  have t12 := lv_neT (a := 12) h12 rfl
  have t13 := lv_neT (a := 13) h13 rfl
  have t14 := lv_neT (a := 14) h14 rfl
  have t15 := lv_neT (a := 15) h15 rfl
  have t16 := lv_neT (a := 16) h16 rfl
  have t17 := lv_neT (a := 17) h17 rfl
  have t18 := lv_neT (a := 18) h18 rfl
  have t19 := lv_neT (a := 19) h19 rfl
  have t20 := lv_neT (a := 20) h20 rfl
  have t21 := lv_neT (a := 21) h21 rfl
  have t22 := lv_neT (a := 22) h22 rfl
  have t23 := lv_neT (a := 23) h23 rfl
  have t24 := lv_neT (a := 24) h24 rfl
  have t25 := lv_neT (a := 25) h25 rfl
  have t26 := lv_neT (a := 26) h26 rfl
  have t27 := lv_neT (a := 27) h27 rfl
  have t28 := lv_neT (a := 28) h28 rfl
  have t29 := lv_neT (a := 29) h29 rfl
  have t30 := lv_neT (a := 30) h30 rfl
  have t31 := lv_neT (a := 31) h31 rfl
  have t32 := lv_neT (a := 32) h32 rfl
  have t33 := lv_neT (a := 33) h33 rfl
  have t34 := lv_neT (a := 34) h34 rfl
  have t35 := lv_neT (a := 35) h35 rfl
  have t36 := lv_neT (a := 36) h36 rfl
  have t37 := lv_neT (a := 37) h37 rfl
  have t38 := lv_neT (a := 38) h38 rfl
  have t39 := lv_neT (a := 39) h39 rfl
  have t40 := lv_neT (a := 40) h40 rfl
  refine X.tableOut (tgt := 2413) dL_law_40 ?_ (by decide) kk
  show (cmd L i).toInt < 0 ∨ 40 < (cmd L i).toInt
  omega
