/-! plain law: what days do to a growth -/
set_option maxRecDepth 100000
def mixf (i : Nat) (f1 f0 : Nat → Int32) : Nat → Int32 := fun c => if c < i then f1 c else f0 c
theorem mixf_upd {i : Nat} {f1 f0 : Nat → Int32} {v : Int32} (h : v = f1 i) : upd (mixf i f1 f0) i v = mixf (i + 1) f1 f0 := by
  subst h
  funext c
  unfold upd mixf
  by_cases h1 : c = i
  · subst h1
    rw [if_pos rfl, if_pos (Nat.lt_succ_self c)]
  · rw [if_neg h1]
    by_cases h2 : c < i
    · rw [if_pos h2, if_pos (by omega)]
    · rw [if_neg h2, if_neg (by omega)]
theorem mixf_same {i : Nat} {f1 f0 : Nat → Int32} (h : f0 i = f1 i) : mixf i f1 f0 = mixf (i + 1) f1 f0 := by
  funext c
  unfold mixf
  by_cases h1 : c = i
  · subst h1
    rw [if_neg (Nat.lt_irrefl c), if_pos (Nat.lt_succ_self c), h]
  · by_cases h2 : c < i
    · rw [if_pos h2, if_pos (by omega)]
    · rw [if_neg h2, if_neg (by omega)]
theorem mixf_at {i : Nat} {f1 f0 : Nat → Int32} : mixf i f1 f0 i = f0 i := by
  unfold mixf
  rw [if_neg (Nat.lt_irrefl i)]
theorem mixf_0 {f1 f0 : Nat → Int32} : mixf 0 f1 f0 = f0 := by
  funext c
  unfold mixf
  rw [if_neg (Nat.not_lt_zero c)]
def enc (b : Option Nat) : Int32 := match b with
  | none => -1
  | some k => Int32.ofNat k
abbrev gT_ (g : Gw) : Nat := (gY g).toNatClampNeg
def bes (e : En) (g : Gw) (c : Nat) (fr : Int32) : Int32 := itr (besF (eW e) g c fr) (eN e) 0
def gvals (e : En) (g : Gw) (c : Nat) : Nat → Int32 := fun k => match k with
  | 0 => gZ g c
  | 1 => gD g c
  | 2 => gF g c
  | 3 => eWm e (gT_ g)
  | 4 => bes e g c 1
  | 5 => bes e g c 0
  | _ => gK g c
def grw (e : En) (g : Gw) (c : Nat) : Int32 := imin (match eRg e with
  | none => gD g c - iabs (eWm e (gT_ g) - 5)
  | some r => imax (-20) (imin 20 (r (gvals e g c)))) (gF g c)
def bvals (e : En) (g : Gw) (a b : Nat) : Nat → Int32 := fun k => match k with
  | 0 => gZ g a
  | 1 => gZ g b
  | 2 => bes e g a 1
  | 3 => bes e g a 0
  | _ => gD g b
def bts (e : En) (g : Gw) (a b : Nat) : Int32 := if gK g a = -1 then 0 else if gK g a = gK g b then 0 else match eRb e with
  | none => if gZ g a ≤ 2 * gZ g b then 0 else 1
  | some r => if r (bvals e g a b) ≤ 0 then 0 else 1
def gdoes (e : En) (g : Gw) (c d : Nat) : Int32 := if gK g c = -1 then (if gZ g d < eS e then 0 else 1) else bts e g d c
def gstF (e : En) (g : Gw) (c d : Nat) (best : Option Nat) : Option Nat := if gK g d = -1 then best else if stp (eW e) (Int32.ofNat d) (Int32.ofNat c) = 1 then (if gdoes e g c d = 0 then best else match best with
  | none => some d
  | some b => if gZ g d ≤ gZ g b then some b else some d) else best
def gst (e : En) (g : Gw) (c : Nat) : Option Nat := itr (gstF e g c) (eN e) none
def nF (e : En) (g : Gw) (c : Nat) : Int32 := if gK g c = -1 then gF g c else gF g c - imax 0 (grw e g c)
def zz (e : En) (g : Gw) (c : Nat) : Int32 := imin 99 (gZ g c + grw e g c)
def nK (e : En) (g : Gw) (c : Nat) : Int32 := if gK g c = -1 then gK g c else if 0 < zz e g c then gK g c else -1
def nZ (e : En) (g : Gw) (c : Nat) : Int32 := if gK g c = -1 then gZ g c else if 0 < zz e g c then zz e g c else 0
def ggrow (e : En) (g : Gw) : Gw := (gD g, mixf (eN e) (nF e g) (gF g), mixf (eN e) (nK e g) (gK g), mixf (eN e) (nZ e g) (gZ g), gY g)
def fK (e : En) (g : Gw) (c : Nat) : Int32 := if gK g c = -1 then gK g c else match gst e g c with
  | none => gK g c
  | some b => gK g b
def gfight (e : En) (g : Gw) : Gw := (gD g, gF g, mixf (eN e) (fK e g) (gK g), gZ g, gY g)
def sBy (e : En) (g : Gw) (c : Nat) : Option Nat := if gK g c = -1 then (if gF g c = 0 then none else gst e g c) else none
def sK (e : En) (g : Gw) (c : Nat) : Int32 := match sBy e g c with
  | none => gK g c
  | some b => gK g b
def sZ (e : En) (g : Gw) (c : Nat) : Int32 := match sBy e g c with
  | none => gZ g c
  | some _ => 1
def gsow (e : En) (g : Gw) : Gw := (gD g, gF g, mixf (eN e) (sK e g) (gK g), mixf (eN e) (sZ e g) (gZ g), gY g)
def gday (g : Gw) : Gw := (gD g, gF g, gK g, gZ g, gY g + 1)
def gpass (e : En) (g : Gw) : Gw := gday (gsow e (gfight e (ggrow e g)))
def gafter (e : En) (k : Nat) (g : Gw) : Gw := itr (fun _ => gpass e) k g
def zK (g : Gw) (c : Nat) : Int32 := if gZ g c / 2 = 0 then -1 else gK g c
def gfrost (e : En) (g : Gw) : Gw := (gD g, gF g, mixf (eN e) (zK g) (gK g), mixf (eN e) (fun c => gZ g c / 2) (gZ g), gY g)
def gfeed (g : Gw) (c : Nat) (m : Int32) : Gw := (gD g, upd (gF g) c (imin 99 (gF g c + m)), gK g, gZ g, gY g)
def gclr (g : Gw) (c : Nat) : Gw := (gD g, gF g, upd (gK g) c (-1), upd (gZ g) c 0, gY g)
def vtr (e : En) (g : Gw) (c : Nat) : Bool := decide (gK g c ≠ -1) && decide (¬ gZ g c < eA e)
def pk (e : En) (g : Gw) (c : Nat) : Int32 := ePy e (gK g c).toNatClampNeg
def vtsF (e : En) (g : Gw) (p : Int32) (c : Nat) (n : Int32) : Int32 := if vtr e g c = true then (if pk e g c = p then n + 1 else n) else n
def vts (e : En) (g : Gw) (p : Int32) : Int32 := itr (vtsF e g p) (eN e) 0
def winF (e : En) (g : Gw) (p : Nat) (s : Int32 × Int32) : Int32 × Int32 := if vts e g (Int32.ofNat p) ≤ s.2 then s else (Int32.ofNat p, vts e g (Int32.ofNat p))
def win (e : En) (g : Gw) : Int32 := (itr (winF e g) 4 (-1, 0)).1
def bt (s : Int32) (p : Nat) : Int32 := (s >>> Int32.ofNat p) &&& 1
def vofF (e : En) (g : Gw) (s : Int32) (p : Nat) (n : Int32) : Int32 := if bt s p = 1 then n + vts e g (Int32.ofNat p) else n
def vof (e : En) (g : Gw) (s : Int32) : Int32 := itr (vofF e g s) 4 0
/-- a growth that can be: the day, the kinds -/
def GK (e : En) (g : Gw) : Prop := (∃ d, d < 2000 ∧ gY g = Int32.ofNat d) ∧ ∀ c, c < 30 → gK g c = -1 ∨ ∃ k, k < eP e ∧ gK g c = Int32.ofNat k
