/-! plain law: what a roll's lines are, told by their tokens -/
set_option maxRecDepth 100000
/-- named once, named cells, wide, high, age, spores, warmths, kinds, the two rules, the growth, the code and where the rules begin in it -/
abbrev Yx : Type := Nat × (Nat → Bool) × Nat × Nat × Nat × Nat × (Nat × (Nat → Nat)) × (Nat × (Nat → Nat)) × Option Ex × Option Ex × Gw × List Nat × Nat × Nat
abbrev yD (Y : Yx) : Nat := Y.1
abbrev yC (Y : Yx) : Nat → Bool := Y.2.1
abbrev yW (Y : Yx) : Nat := Y.2.2.1
abbrev yH (Y : Yx) : Nat := Y.2.2.2.1
abbrev yA (Y : Yx) : Nat := Y.2.2.2.2.1
abbrev yS (Y : Yx) : Nat := Y.2.2.2.2.2.1
abbrev yT (Y : Yx) : Nat × (Nat → Nat) := Y.2.2.2.2.2.2.1
abbrev yP (Y : Yx) : Nat × (Nat → Nat) := Y.2.2.2.2.2.2.2.1
abbrev yG (Y : Yx) : Option Ex := Y.2.2.2.2.2.2.2.2.1
abbrev yB (Y : Yx) : Option Ex := Y.2.2.2.2.2.2.2.2.2.1
abbrev yR (Y : Yx) : Gw := Y.2.2.2.2.2.2.2.2.2.2.1
abbrev yL (Y : Yx) : List Nat := Y.2.2.2.2.2.2.2.2.2.2.2.1
abbrev yg (Y : Yx) : Nat := Y.2.2.2.2.2.2.2.2.2.2.2.2.1
abbrev yb (Y : Yx) : Nat := Y.2.2.2.2.2.2.2.2.2.2.2.2.2
abbrev PL (α : Type) : Type := (Nat × Nat) ⊕ α
def sbd {α β : Type} (x : PL α) (f : α → PL β) : PL β := match x with
  | .inl z => .inl z
  | .inr a => f a
theorem sbd_r {α β : Type} {a : α} {f : α → PL β} : sbd (.inr a) f = f a := rfl
theorem sbd_l {α β : Type} {z : Nat × Nat} {f : α → PL β} : sbd (.inl z) f = .inl z := rfl
def pNum (t : Tpe) (p lo hi : Nat) : PL (Nat × Nat) := if tS t p = 2 ∧ tE t p - tB t p ≤ 4 ∧ lo ≤ nmF t p ∧ nmF t p ≤ hi then .inr (nmF t p, tE t p) else .inl (if tS t p = 2 then 2 else 1, tB t p)
/-- any number below some -/
def pAmo (t : Tpe) (p m : Nat) : PL Nat := sbd (pNum t p 0 9999) fun v => if v.1 < m then .inr v.1 else .inl (3, tB t p)
def begun (Y : Yx) : Bool := (List.range 30).any fun c => yC Y c || decide (gK (yR Y) c ≠ -1)
def grMs : List Nat := [0, 1, 2, 3, 4, 5, 6]
def beMs : List Nat := [0, 7, 4, 5, 1]
def grIs : List Nat := [6, 7, 8, 1, 9, 10, 11]
def beIs : List Nat := [6, 12, 9, 10, 7]
def orMs : List Nat := [8, 3, 11, 12, 13, 14]
def orIs : List Nat := [0, 1, 2, 3, 4, 5]
/-- one more of a list -/
def ysn (l : Nat × (Nat → Nat)) (v : Nat) : Nat × (Nat → Nat) := (l.1 + 1, va_up l.2 l.1 v)
/-- warmths -/
def pWm (t : Tpe) : Nat → (Nat × (Nat → Nat)) → Nat → PL ((Nat × (Nat → Nat)) × Nat)
  | 0, _, _ => .inl (0, 0)
  | d + 1, l, p => if tS t p = 2 then (if 8 ≤ l.1 then .inl (2, tB t p) else sbd (pNum t p 0 9) fun v => pWm t d (ysn l v.1) v.2) else .inr (l, p)
abbrev sDn (Y : Yx) (i : Nat) (Z : Nat × Nat × Nat × Nat × (Nat × (Nat → Nat)) × (Nat × (Nat → Nat)) × Option Ex × Option Ex × Gw × List Nat × Nat × Nat) : Yx := (yD Y ||| 2 ^ i, yC Y, Z)
abbrev sCel (Y : Yx) (w h : Nat) : Yx := (yD Y ||| 2 ^ 0, yC Y, w, h, Y.2.2.2.2)
abbrev sWm (Y : Yx) (l : Nat × (Nat → Nat)) : Yx := (yD Y ||| 2 ^ 1, yC Y, yW Y, yH Y, yA Y, yS Y, l, Y.2.2.2.2.2.2.2)
abbrev sAge (Y : Yx) (v : Nat) : Yx := (yD Y ||| 2 ^ 2, yC Y, yW Y, yH Y, v, Y.2.2.2.2.2)
abbrev sSpo (Y : Yx) (v : Nat) : Yx := (yD Y ||| 2 ^ 3, yC Y, yW Y, yH Y, yA Y, v, Y.2.2.2.2.2.2)
abbrev sGr (Y : Yx) (e : Ex) : Yx := (yD Y ||| 2 ^ 4, yC Y, yW Y, yH Y, yA Y, yS Y, yT Y, yP Y, some e, yB Y, yR Y, yL Y ++ e.1 ++ [0], (yL Y).length, yb Y)
abbrev sBe (Y : Yx) (e : Ex) : Yx := (yD Y ||| 2 ^ 5, yC Y, yW Y, yH Y, yA Y, yS Y, yT Y, yP Y, yG Y, some e, yR Y, yL Y ++ e.1 ++ [0], yg Y, (yL Y).length)
abbrev sKin (Y : Yx) (v : Nat) : Yx := (yD Y, yC Y, yW Y, yH Y, yA Y, yS Y, yT Y, ysn (yP Y) v, Y.2.2.2.2.2.2.2.2)
abbrev sCll (Y : Yx) (c d f : Nat) : Yx := (yD Y, (fun i => if i = c then true else yC Y i), yW Y, yH Y, yA Y, yS Y, yT Y, yP Y, yG Y, yB Y, (upd (gD (yR Y)) c (Int32.ofNat d), upd (gF (yR Y)) c (Int32.ofNat f), gK (yR Y), gZ (yR Y), gY (yR Y)), Y.2.2.2.2.2.2.2.2.2.2.2)
abbrev sMou (Y : Yx) (c k z : Nat) : Yx := (yD Y, yC Y, yW Y, yH Y, yA Y, yS Y, yT Y, yP Y, yG Y, yB Y, (gD (yR Y), gF (yR Y), upd (gK (yR Y)) c (Int32.ofNat k), upd (gZ (yR Y)) c (Int32.ofNat z), gY (yR Y)), Y.2.2.2.2.2.2.2.2.2.2.2)
/-- named already -/
def dup (Y : Yx) (i : Nat) : Bool := (yD Y).testBit i
/-- one that may be named once -/
def once {α : Type} (t : Tpe) (Y : Yx) (p i : Nat) (x : PL α) : PL α := if dup Y i = true then .inl (5, tB t p) else x
def pBody (t : Tpe) (Y : Yx) (p : Nat) : PL (Yx × Nat) :=
  if kw t p = 8 then (if begun Y = true then .inl (4, tB t p) else once t Y p 0 (sbd (pNum t (tE t p) 1 6) fun w => sbd (pNum t w.2 1 5) fun h => .inr (sCel Y w.1 h.1, h.2)))
  else if kw t p = 3 then once t Y p 1 (if tS t (tE t p) = 2 then sbd (pWm t 701 (yT Y) (tE t p)) fun l => .inr (sWm Y l.1, l.2) else .inl (1, tB t (tE t p)))
  else if kw t p = 11 then once t Y p 2 (sbd (pNum t (tE t p) 1 99) fun v => .inr (sAge Y v.1, v.2))
  else if kw t p = 12 then once t Y p 3 (sbd (pNum t (tE t p) 1 99) fun v => .inr (sSpo Y v.1, v.2))
  else if kw t p = 13 then once t Y p 4 (sbd (pE t grMs 6 (tE t p)) fun e => .inr (sGr Y e.1, e.2))
  else if kw t p = 14 then once t Y p 5 (sbd (pE t beMs 6 (tE t p)) fun e => .inr (sBe Y e.1, e.2))
  else if kw t p = 6 then (if 4 ≤ (yP Y).1 then .inl (2, tB t p) else sbd (pNum t (tE t p) 0 3) fun v => .inr (sKin Y v.1, v.2))
  else if kw t p = 9 then sbd (pAmo t (tE t p) (yW Y * yH Y)) fun c => if yC Y c = true then .inl (4, tB t (tE t p)) else sbd (pNum t (tE t (tE t p)) 0 9) fun d => sbd (pNum t d.2 0 99) fun f => .inr (sCll Y c d.1 f.1, f.2)
  else if kw t p = 10 then sbd (pAmo t (tE t p) (yW Y * yH Y)) fun c => if gK (yR Y) c ≠ -1 then .inl (4, tB t (tE t p)) else sbd (pAmo t (tE t (tE t p)) (yP Y).1) fun k => sbd (pNum t (tE t (tE t (tE t p))) 1 99) fun z => .inr (sMou Y c k z.1, z.2)
  else .inl (1, tB t p)
def pLine (t : Tpe) (Y : Yx) (p : Nat) : PL (Yx × Nat) := sbd (pBody t Y p) fun z => if sgi t z.2 59 then .inr (z.1, tE t z.2) else .inl (1, tB t z.2)
def pRead (t : Tpe) : Nat → Yx → Nat → PL Yx
  | 0, _, _ => .inl (0, 0)
  | d + 1, Y, p => if tS t p = 0 then .inr Y else sbd (pLine t Y p) fun z => pRead t d z.1 z.2
def Y0 : Yx := (0, (fun _ => false), 3, 3, 9, 6, (0, fun _ => 0), (0, fun _ => 0), none, none, g00, [], 0, 0)
theorem pNum_i {t : Tpe} {p lo hi v q : Nat} (h : pNum t p lo hi = .inr (v, q)) : nOK t p lo hi ∧ v = nmF t p ∧ q = tE t p := by
  unfold pNum at h
  split at h
  · have h := Sum.inr.inj h
    exact ⟨by assumption, (congrArg Prod.fst h).symm, (congrArg Prod.snd h).symm⟩
  · cases h
theorem pNum_ok {t : Tpe} {p lo hi : Nat} (h : nOK t p lo hi) : pNum t p lo hi = .inr (nmF t p, tE t p) := if_pos h
theorem pNum_no {t : Tpe} {p lo hi : Nat} (h : ¬ nOK t p lo hi) : pNum t p lo hi = .inl (if tS t p = 2 then 2 else 1, tB t p) := if_neg h
theorem nOK_fw {t : Tpe} {p lo hi : Nat} (hp : p ≤ t.2) (h : nOK t p lo hi) : p < tE t p ∧ tE t p ≤ t.2 := tE_fw hp (by rw [h.1]; decide)
theorem pWm_fw {t : Tpe} : ∀ d l p l' q, p ≤ t.2 → pWm t d l p = .inr (l', q) → p ≤ q ∧ q ≤ t.2 := by
  intro d
  induction d with
  | zero => intro l p l' q _ h; cases h
  | succ d ih =>
    intro l p l' q hp h
    unfold pWm at h
    split at h
    · split at h
      · cases h
      · by_cases ok : nOK t p 0 9
        · rw [pNum_ok ok, sbd_r] at h
          have f := nOK_fw hp ok
          have := ih _ _ _ _ f.2 h
          omega
        · rw [pNum_no ok] at h; cases h
    · have h2 : p = q := congrArg Prod.snd (Sum.inr.inj h)
      omega
