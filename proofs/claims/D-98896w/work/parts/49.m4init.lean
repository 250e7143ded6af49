/-! the constructor of the reference -/
set_option maxRecDepth 100000
/-- the object with fields fs, and its first k arrays, all zero -/
def pm (m0 : Nat) (h : xH) (fs : List Value) (k : Nat) : xH := fun a => if a = m0 then some (true, .inr (3, fs)) else if m0 < a ∧ a ≤ m0 + k then some (true, .inl (mTy (a - m0), mL (a - m0), .inl (fun _ => 0))) else h a
theorem pm_0 {m0 : Nat} {h : xH} {fs : List Value} {k : Nat} : pm m0 h fs k m0 = some (true, .inr (3, fs)) := by unfold pm; rw [if_pos rfl]
theorem pm_put {m0 : Nat} {h : xH} {fs fs' : List Value} {k : Nat} : xset (pm m0 h fs k) m0 (true, .inr (3, fs')) = pm m0 h fs' k := by
  funext a
  unfold xset pm
  by_cases e : a = m0
  · rw [if_pos e, if_pos e]
  · rw [if_neg e, if_neg e, if_neg e]
theorem pm_new {m0 : Nat} {h : xH} {fs : List Value} {k : Nat} {ty : FieldType} {n : Nat} (ht : mTy (k + 1) = ty) (hn : mL (k + 1) = n) : xset (pm m0 h fs k) (m0 + 1 + k) (true, .inl (ty, n, .inl (fun _ => 0))) = pm m0 h fs (k + 1) := by
  funext a
  unfold xset pm
  by_cases e : a = m0 + 1 + k
  · subst e
    rw [if_pos rfl, if_neg (by omega), if_pos ⟨by omega, by omega⟩, show m0 + 1 + k - m0 = k + 1 by omega, ht, hn]
  · rw [if_neg e]
    by_cases e2 : a = m0
    · rw [if_pos e2, if_pos e2]
    · rw [if_neg e2, if_neg e2]
      by_cases e3 : m0 < a ∧ a ≤ m0 + k
      · rw [if_pos e3, if_pos ⟨e3.1, by omega⟩]
      · rw [if_neg e3, if_neg (by omega)]
section MI
variable {G : xG} {Y : xR} {pc m0 N Z k : Nat} {L : List (Nat × Value)} {rest : List Value} {h : xH} {fs : List Value}
theorem P.put {index i : Nat} {v : Value} {ty : FieldType} {fin : Bool} (d : decode Y.1.2.1 pc = .ok (.putfield index, 3)) (hf : xFld Y.1.1.cls index 3 i ty fin) (hfin : fin = true → Y.1.1.name = "<init>") (hn : narrow ty v = v) (hfit : fits ty v = true) (kk : Xr G Y (pc + 3) L rest (pm m0 h (fs.set i v) k, N, Z)) : Xr G Y pc L (v :: .ref m0 :: rest) (pm m0 h fs k, N, Z) := X.putf d hf hfin pm_0 hn hfit (by rw [pm_put]; exact kk)
theorem P.newa {atype : ArrayType} {ty : FieldType} {n : Int32} {n' : Nat} (d : decode Y.1.2.1 pc = .ok (.newarray atype, 2)) (hty : newarray.typeOf atype = ty) (htm : ty ∈ xTys) (hr : ty.isReference = false) (hw : Cond.arrayClass ty ∈ lw_all) (hd : defaultValue ty = .int 0) (hby : componentBytes ty ≤ 4) (hn : ¬ n < 0) (hN : n.toNatClampNeg = n') (hlt : n' < 100000000) (h1 : mTy (k + 1) = ty) (h2 : mL (k + 1) = n') (hle : xle (pm m0 h fs (k + 1), m0 + 1 + (k + 1), Z + n') Y.2.2.2.2) (kk : Xr G Y (pc + 2) L (.ref (m0 + (k + 1)) :: rest) (pm m0 h fs (k + 1), m0 + 1 + (k + 1), Z + n')) : Xr G Y pc L (.int n :: rest) (pm m0 h fs k, m0 + 1 + k, Z) := by
  subst hN
  have e : nA (pm m0 h fs k, m0 + 1 + k, Z) ty n.toNatClampNeg = (pm m0 h fs (k + 1), m0 + 1 + (k + 1), Z + n.toNatClampNeg) := by
    unfold nA
    dsimp only
    rw [pm_new h1 h2]
    rfl
  refine C.newa d hty htm hr hw hd hby (fun q => q.elim hn (fun q => by omega)) ?_ ?_
  · rw [e]; exact hle
  · rw [e]
    rw [show m0 + (k + 1) = m0 + 1 + k by omega] at kk
    exact kk
theorem pm_mh {S : MS} (hf : fs = mfl m0 S) (hA : ∀ j i, S.2.2 j i = 0) : pm m0 h fs 26 = mh m0 h S := by
  funext a
  unfold pm mh
  by_cases e : a = m0
  · subst e
    rw [if_pos rfl, if_pos ⟨Nat.le_refl _, by omega⟩, Nat.sub_self, hf]
    rfl
  · rw [if_neg e]
    by_cases e2 : m0 < a ∧ a ≤ m0 + 26
    · rw [if_pos e2, if_pos ⟨by omega, by omega⟩]
      unfold mcell
      rw [if_neg (by omega)]
      have e3 : S.2.2 (a - m0) = fun _ => 0 := funext (hA _)
      rw [e3]
    · rw [if_neg e2, if_neg (by omega)]
end MI
/-- the state that it makes, ahead of the emptying: ints by place -/
def mF0 : Nat → Int32 := fun k => match k with
  | 1 => 3
  | 2 => 3
  | 5 => 9
  | 6 => 6
  | 7 => -1
  | 8 => -1
  | 15 => -1
  | _ => 0
def mS0 : MS := (mF0, 0, fun _ _ => 0)
/-- slots of the first k arrays -/
def mZ (k : Nat) : Nat := ((List.range k).map fun j => mL (j + 1)).sum
def mDf : List Value := [.int 0, .int 0, .int 0, .int 0, .int 0, .int 0, .int 0, .int 0, .int 0, .null, .null, .null, .null, .int 0, .int 0, .int 0, .null, .int 0, .int 0, .int 0, .int 0, .int 0, .int 0, .int 0, .long 0, .int 0, .int 0, .int 0, .int 0, .int 0, .int 0, .int 0, .int 0, .int 0, .int 0, .int 0, .int 0, .null, .null, .null, .null, .null, .null, .null, .null, .null, .int 0, .null, .null, .null, .null, .null, .null, .int 0, .null, .null, .null, .int 0, .int 0, .int 0, .int 0, .null, .null, .null]
abbrev cX4_init : ByteArray := prog_12_method_1_code
def yX4_init : MethodName := ⟨RX4, "<init>", "()V"⟩
def dkwX4_init_12 : List UInt8 := [167, 255, 238, 177]
abbrev dktX4_init_12 : List UInt8 := dkwX4_init_12 ++ []
def dkwX4_init_11 : List UInt8 := [181, 0, 108, 3, 60, 27, 16, 30, 162, 0, 18, 42, 42, 180, 0, 69, 27, 182, 0, 111, 132, 1, 1]
abbrev dktX4_init_11 : List UInt8 := dkwX4_init_11 ++ dktX4_init_12
def dkwX4_init_10 : List UInt8 := [42, 16, 121, 188, 10, 181, 0, 102, 42, 17, 18, 232, 188, 10, 181, 0, 105, 42, 16, 24, 188, 10]
abbrev dktX4_init_10 : List UInt8 := dkwX4_init_10 ++ dktX4_init_11
def dkwX4_init_9 : List UInt8 := [16, 24, 188, 10, 181, 0, 93, 42, 16, 30, 188, 10, 181, 0, 96, 42, 17, 14, 16, 188, 10, 181, 0, 99]
abbrev dktX4_init_9 : List UInt8 := dkwX4_init_9 ++ dktX4_init_10
def dkwX4_init_8 : List UInt8 := [188, 10, 181, 0, 84, 42, 16, 9, 188, 10, 181, 0, 87, 42, 17, 18, 0, 188, 10, 181, 0, 90, 42]
abbrev dktX4_init_8 : List UInt8 := dkwX4_init_8 ++ dktX4_init_9
def dkwX4_init_7 : List UInt8 := [181, 0, 75, 42, 17, 3, 182, 188, 10, 181, 0, 78, 42, 16, 30, 188, 10, 181, 0, 81, 42, 16, 30]
abbrev dktX4_init_7 : List UInt8 := dkwX4_init_7 ++ dktX4_init_8
def dkwX4_init_6 : List UInt8 := [17, 0, 242, 188, 10, 181, 0, 69, 42, 17, 18, 232, 188, 10, 181, 0, 72, 42, 16, 8, 188, 10]
abbrev dktX4_init_6 : List UInt8 := dkwX4_init_6 ++ dktX4_init_7
def dkwX4_init_5 : List UInt8 := [188, 10, 181, 0, 59, 42, 16, 9, 188, 4, 181, 0, 62, 42, 16, 30, 188, 4, 181, 0, 66, 42]
abbrev dktX4_init_5 : List UInt8 := dkwX4_init_5 ++ dktX4_init_6
def dkwX4_init_4 : List UInt8 := [181, 0, 50, 42, 16, 121, 188, 10, 181, 0, 53, 42, 17, 5, 120, 188, 10, 181, 0, 56, 42, 17, 3, 182]
abbrev dktX4_init_4 : List UInt8 := dkwX4_init_4 ++ dktX4_init_5
def dkwX4_init_3 : List UInt8 := [2, 181, 0, 41, 42, 6, 188, 10, 181, 0, 44, 42, 7, 188, 10, 181, 0, 47, 42, 16, 8, 188, 10]
abbrev dktX4_init_3 : List UInt8 := dkwX4_init_3 ++ dktX4_init_4
def dkwX4_init_2 : List UInt8 := [188, 10, 181, 0, 32, 42, 17, 5, 120, 188, 10, 181, 0, 35, 42, 17, 2, 188, 188, 10, 181, 0, 38, 42]
abbrev dktX4_init_2 : List UInt8 := dkwX4_init_2 ++ dktX4_init_3
def dkwX4_init_1 : List UInt8 := [181, 0, 19, 42, 2, 181, 0, 22, 42, 2, 181, 0, 25, 42, 7, 188, 10, 181, 0, 28, 42, 16, 8]
abbrev dktX4_init_1 : List UInt8 := dkwX4_init_1 ++ dktX4_init_2
def dkwX4_init_0 : List UInt8 := [42, 183, 0, 1, 42, 6, 181, 0, 7, 42, 6, 181, 0, 13, 42, 16, 9, 181, 0, 16, 42, 16, 6]
abbrev dktX4_init_0 : List UInt8 := dkwX4_init_0 ++ dktX4_init_1
theorem dksX4_init_0 : cX4_init.data.toList.drop 0 = dktX4_init_0 := by decide +kernel
theorem dksX4_init_1 : cX4_init.data.toList.drop 23 = dktX4_init_1 := dk_seg dksX4_init_0 23 rfl rfl
theorem dksX4_init_2 : cX4_init.data.toList.drop 46 = dktX4_init_2 := dk_seg dksX4_init_1 23 rfl rfl
theorem dksX4_init_3 : cX4_init.data.toList.drop 70 = dktX4_init_3 := dk_seg dksX4_init_2 24 rfl rfl
theorem dksX4_init_4 : cX4_init.data.toList.drop 93 = dktX4_init_4 := dk_seg dksX4_init_3 23 rfl rfl
theorem dksX4_init_5 : cX4_init.data.toList.drop 117 = dktX4_init_5 := dk_seg dksX4_init_4 24 rfl rfl
theorem dksX4_init_6 : cX4_init.data.toList.drop 139 = dktX4_init_6 := dk_seg dksX4_init_5 22 rfl rfl
theorem dksX4_init_7 : cX4_init.data.toList.drop 161 = dktX4_init_7 := dk_seg dksX4_init_6 22 rfl rfl
theorem dksX4_init_8 : cX4_init.data.toList.drop 184 = dktX4_init_8 := dk_seg dksX4_init_7 23 rfl rfl
theorem dksX4_init_9 : cX4_init.data.toList.drop 207 = dktX4_init_9 := dk_seg dksX4_init_8 23 rfl rfl
theorem dksX4_init_10 : cX4_init.data.toList.drop 231 = dktX4_init_10 := dk_seg dksX4_init_9 24 rfl rfl
theorem dksX4_init_11 : cX4_init.data.toList.drop 253 = dktX4_init_11 := dk_seg dksX4_init_10 22 rfl rfl
theorem dksX4_init_12 : cX4_init.data.toList.drop 276 = dktX4_init_12 := dk_seg dksX4_init_11 23 rfl rfl
theorem dX4_init_0 : decode cX4_init 0 = .ok (.aload_n 0, 1) := dk_42 (dk_at dksX4_init_0 0 rfl rfl)
theorem dX4_init_1 : decode cX4_init 1 = .ok (.invokespecial 1, 3) := dk_183 0 1 (dk_at dksX4_init_0 1 rfl rfl)
theorem dX4_init_4 : decode cX4_init 4 = .ok (.aload_n 0, 1) := dk_42 (dk_at dksX4_init_0 4 rfl rfl)
theorem dX4_init_5 : decode cX4_init 5 = .ok (.iconst 3, 1) := dk_6 (dk_at dksX4_init_0 5 rfl rfl)
theorem dX4_init_6 : decode cX4_init 6 = .ok (.putfield 7, 3) := dk_181 0 7 (dk_at dksX4_init_0 6 rfl rfl)
theorem dX4_init_9 : decode cX4_init 9 = .ok (.aload_n 0, 1) := dk_42 (dk_at dksX4_init_0 9 rfl rfl)
theorem dX4_init_10 : decode cX4_init 10 = .ok (.iconst 3, 1) := dk_6 (dk_at dksX4_init_0 10 rfl rfl)
theorem dX4_init_11 : decode cX4_init 11 = .ok (.putfield 13, 3) := dk_181 0 13 (dk_at dksX4_init_0 11 rfl rfl)
theorem dX4_init_14 : decode cX4_init 14 = .ok (.aload_n 0, 1) := dk_42 (dk_at dksX4_init_0 14 rfl rfl)
theorem dX4_init_15 : decode cX4_init 15 = .ok (.bipush 9, 2) := dk_16 9 (dk_at dksX4_init_0 15 rfl rfl)
theorem dX4_init_17 : decode cX4_init 17 = .ok (.putfield 16, 3) := dk_181 0 16 (dk_at dksX4_init_0 17 rfl rfl)
theorem dX4_init_20 : decode cX4_init 20 = .ok (.aload_n 0, 1) := dk_42 (dk_at dksX4_init_0 20 rfl rfl)
theorem dX4_init_21 : decode cX4_init 21 = .ok (.bipush 6, 2) := dk_16 6 (dk_at dksX4_init_0 21 rfl rfl)
theorem dX4_init_23 : decode cX4_init 23 = .ok (.putfield 19, 3) := dk_181 0 19 (dk_at dksX4_init_1 0 rfl rfl)
theorem dX4_init_26 : decode cX4_init 26 = .ok (.aload_n 0, 1) := dk_42 (dk_at dksX4_init_1 3 rfl rfl)
theorem dX4_init_27 : decode cX4_init 27 = .ok (.iconst (-1), 1) := dk_2 (dk_at dksX4_init_1 4 rfl rfl)
theorem dX4_init_28 : decode cX4_init 28 = .ok (.putfield 22, 3) := dk_181 0 22 (dk_at dksX4_init_1 5 rfl rfl)
theorem dX4_init_31 : decode cX4_init 31 = .ok (.aload_n 0, 1) := dk_42 (dk_at dksX4_init_1 8 rfl rfl)
theorem dX4_init_32 : decode cX4_init 32 = .ok (.iconst (-1), 1) := dk_2 (dk_at dksX4_init_1 9 rfl rfl)
theorem dX4_init_33 : decode cX4_init 33 = .ok (.putfield 25, 3) := dk_181 0 25 (dk_at dksX4_init_1 10 rfl rfl)
theorem dX4_init_36 : decode cX4_init 36 = .ok (.aload_n 0, 1) := dk_42 (dk_at dksX4_init_1 13 rfl rfl)
theorem dX4_init_37 : decode cX4_init 37 = .ok (.iconst 4, 1) := dk_7 (dk_at dksX4_init_1 14 rfl rfl)
theorem dX4_init_38 : decode cX4_init 38 = .ok (.newarray .int, 2) := dk_188_10 (dk_at dksX4_init_1 15 rfl rfl)
theorem dX4_init_40 : decode cX4_init 40 = .ok (.putfield 28, 3) := dk_181 0 28 (dk_at dksX4_init_1 17 rfl rfl)
theorem dX4_init_43 : decode cX4_init 43 = .ok (.aload_n 0, 1) := dk_42 (dk_at dksX4_init_1 20 rfl rfl)
theorem dX4_init_44 : decode cX4_init 44 = .ok (.bipush 8, 2) := dk_16 8 (dk_at dksX4_init_1 21 rfl rfl)
theorem dX4_init_46 : decode cX4_init 46 = .ok (.newarray .int, 2) := dk_188_10 (dk_at dksX4_init_2 0 rfl rfl)
theorem dX4_init_48 : decode cX4_init 48 = .ok (.putfield 32, 3) := dk_181 0 32 (dk_at dksX4_init_2 2 rfl rfl)
theorem dX4_init_51 : decode cX4_init 51 = .ok (.aload_n 0, 1) := dk_42 (dk_at dksX4_init_2 5 rfl rfl)
theorem dX4_init_52 : decode cX4_init 52 = .ok (.sipush 1400, 3) := dk_17 5 120 (dk_at dksX4_init_2 6 rfl rfl)
theorem dX4_init_55 : decode cX4_init 55 = .ok (.newarray .int, 2) := dk_188_10 (dk_at dksX4_init_2 9 rfl rfl)
theorem dX4_init_57 : decode cX4_init 57 = .ok (.putfield 35, 3) := dk_181 0 35 (dk_at dksX4_init_2 11 rfl rfl)
theorem dX4_init_60 : decode cX4_init 60 = .ok (.aload_n 0, 1) := dk_42 (dk_at dksX4_init_2 14 rfl rfl)
theorem dX4_init_61 : decode cX4_init 61 = .ok (.sipush 700, 3) := dk_17 2 188 (dk_at dksX4_init_2 15 rfl rfl)
theorem dX4_init_64 : decode cX4_init 64 = .ok (.newarray .int, 2) := dk_188_10 (dk_at dksX4_init_2 18 rfl rfl)
theorem dX4_init_66 : decode cX4_init 66 = .ok (.putfield 38, 3) := dk_181 0 38 (dk_at dksX4_init_2 20 rfl rfl)
theorem dX4_init_69 : decode cX4_init 69 = .ok (.aload_n 0, 1) := dk_42 (dk_at dksX4_init_2 23 rfl rfl)
theorem dX4_init_70 : decode cX4_init 70 = .ok (.iconst (-1), 1) := dk_2 (dk_at dksX4_init_3 0 rfl rfl)
theorem dX4_init_71 : decode cX4_init 71 = .ok (.putfield 41, 3) := dk_181 0 41 (dk_at dksX4_init_3 1 rfl rfl)
theorem dX4_init_74 : decode cX4_init 74 = .ok (.aload_n 0, 1) := dk_42 (dk_at dksX4_init_3 4 rfl rfl)
theorem dX4_init_75 : decode cX4_init 75 = .ok (.iconst 3, 1) := dk_6 (dk_at dksX4_init_3 5 rfl rfl)
theorem dX4_init_76 : decode cX4_init 76 = .ok (.newarray .int, 2) := dk_188_10 (dk_at dksX4_init_3 6 rfl rfl)
theorem dX4_init_78 : decode cX4_init 78 = .ok (.putfield 44, 3) := dk_181 0 44 (dk_at dksX4_init_3 8 rfl rfl)
theorem dX4_init_81 : decode cX4_init 81 = .ok (.aload_n 0, 1) := dk_42 (dk_at dksX4_init_3 11 rfl rfl)
theorem dX4_init_82 : decode cX4_init 82 = .ok (.iconst 4, 1) := dk_7 (dk_at dksX4_init_3 12 rfl rfl)
theorem dX4_init_83 : decode cX4_init 83 = .ok (.newarray .int, 2) := dk_188_10 (dk_at dksX4_init_3 13 rfl rfl)
theorem dX4_init_85 : decode cX4_init 85 = .ok (.putfield 47, 3) := dk_181 0 47 (dk_at dksX4_init_3 15 rfl rfl)
theorem dX4_init_88 : decode cX4_init 88 = .ok (.aload_n 0, 1) := dk_42 (dk_at dksX4_init_3 18 rfl rfl)
theorem dX4_init_89 : decode cX4_init 89 = .ok (.bipush 8, 2) := dk_16 8 (dk_at dksX4_init_3 19 rfl rfl)
theorem dX4_init_91 : decode cX4_init 91 = .ok (.newarray .int, 2) := dk_188_10 (dk_at dksX4_init_3 21 rfl rfl)
theorem dX4_init_93 : decode cX4_init 93 = .ok (.putfield 50, 3) := dk_181 0 50 (dk_at dksX4_init_4 0 rfl rfl)
theorem dX4_init_96 : decode cX4_init 96 = .ok (.aload_n 0, 1) := dk_42 (dk_at dksX4_init_4 3 rfl rfl)
theorem dX4_init_97 : decode cX4_init 97 = .ok (.bipush 121, 2) := dk_16 121 (dk_at dksX4_init_4 4 rfl rfl)
theorem dX4_init_99 : decode cX4_init 99 = .ok (.newarray .int, 2) := dk_188_10 (dk_at dksX4_init_4 6 rfl rfl)
theorem dX4_init_101 : decode cX4_init 101 = .ok (.putfield 53, 3) := dk_181 0 53 (dk_at dksX4_init_4 8 rfl rfl)
theorem dX4_init_104 : decode cX4_init 104 = .ok (.aload_n 0, 1) := dk_42 (dk_at dksX4_init_4 11 rfl rfl)
theorem dX4_init_105 : decode cX4_init 105 = .ok (.sipush 1400, 3) := dk_17 5 120 (dk_at dksX4_init_4 12 rfl rfl)
theorem dX4_init_108 : decode cX4_init 108 = .ok (.newarray .int, 2) := dk_188_10 (dk_at dksX4_init_4 15 rfl rfl)
theorem dX4_init_110 : decode cX4_init 110 = .ok (.putfield 56, 3) := dk_181 0 56 (dk_at dksX4_init_4 17 rfl rfl)
theorem dX4_init_113 : decode cX4_init 113 = .ok (.aload_n 0, 1) := dk_42 (dk_at dksX4_init_4 20 rfl rfl)
theorem dX4_init_114 : decode cX4_init 114 = .ok (.sipush 950, 3) := dk_17 3 182 (dk_at dksX4_init_4 21 rfl rfl)
theorem dX4_init_117 : decode cX4_init 117 = .ok (.newarray .int, 2) := dk_188_10 (dk_at dksX4_init_5 0 rfl rfl)
theorem dX4_init_119 : decode cX4_init 119 = .ok (.putfield 59, 3) := dk_181 0 59 (dk_at dksX4_init_5 2 rfl rfl)
theorem dX4_init_122 : decode cX4_init 122 = .ok (.aload_n 0, 1) := dk_42 (dk_at dksX4_init_5 5 rfl rfl)
theorem dX4_init_123 : decode cX4_init 123 = .ok (.bipush 9, 2) := dk_16 9 (dk_at dksX4_init_5 6 rfl rfl)
theorem dX4_init_125 : decode cX4_init 125 = .ok (.newarray .boolean, 2) := dk_188_4 (dk_at dksX4_init_5 8 rfl rfl)
theorem dX4_init_127 : decode cX4_init 127 = .ok (.putfield 62, 3) := dk_181 0 62 (dk_at dksX4_init_5 10 rfl rfl)
theorem dX4_init_130 : decode cX4_init 130 = .ok (.aload_n 0, 1) := dk_42 (dk_at dksX4_init_5 13 rfl rfl)
theorem dX4_init_131 : decode cX4_init 131 = .ok (.bipush 30, 2) := dk_16 30 (dk_at dksX4_init_5 14 rfl rfl)
theorem dX4_init_133 : decode cX4_init 133 = .ok (.newarray .boolean, 2) := dk_188_4 (dk_at dksX4_init_5 16 rfl rfl)
theorem dX4_init_135 : decode cX4_init 135 = .ok (.putfield 66, 3) := dk_181 0 66 (dk_at dksX4_init_5 18 rfl rfl)
theorem dX4_init_138 : decode cX4_init 138 = .ok (.aload_n 0, 1) := dk_42 (dk_at dksX4_init_5 21 rfl rfl)
theorem dX4_init_139 : decode cX4_init 139 = .ok (.sipush 242, 3) := dk_17 0 242 (dk_at dksX4_init_6 0 rfl rfl)
theorem dX4_init_142 : decode cX4_init 142 = .ok (.newarray .int, 2) := dk_188_10 (dk_at dksX4_init_6 3 rfl rfl)
theorem dX4_init_144 : decode cX4_init 144 = .ok (.putfield 69, 3) := dk_181 0 69 (dk_at dksX4_init_6 5 rfl rfl)
theorem dX4_init_147 : decode cX4_init 147 = .ok (.aload_n 0, 1) := dk_42 (dk_at dksX4_init_6 8 rfl rfl)
theorem dX4_init_148 : decode cX4_init 148 = .ok (.sipush 4840, 3) := dk_17 18 232 (dk_at dksX4_init_6 9 rfl rfl)
theorem dX4_init_151 : decode cX4_init 151 = .ok (.newarray .int, 2) := dk_188_10 (dk_at dksX4_init_6 12 rfl rfl)
theorem dX4_init_153 : decode cX4_init 153 = .ok (.putfield 72, 3) := dk_181 0 72 (dk_at dksX4_init_6 14 rfl rfl)
theorem dX4_init_156 : decode cX4_init 156 = .ok (.aload_n 0, 1) := dk_42 (dk_at dksX4_init_6 17 rfl rfl)
theorem dX4_init_157 : decode cX4_init 157 = .ok (.bipush 8, 2) := dk_16 8 (dk_at dksX4_init_6 18 rfl rfl)
theorem dX4_init_159 : decode cX4_init 159 = .ok (.newarray .int, 2) := dk_188_10 (dk_at dksX4_init_6 20 rfl rfl)
theorem dX4_init_161 : decode cX4_init 161 = .ok (.putfield 75, 3) := dk_181 0 75 (dk_at dksX4_init_7 0 rfl rfl)
theorem dX4_init_164 : decode cX4_init 164 = .ok (.aload_n 0, 1) := dk_42 (dk_at dksX4_init_7 3 rfl rfl)
theorem dX4_init_165 : decode cX4_init 165 = .ok (.sipush 950, 3) := dk_17 3 182 (dk_at dksX4_init_7 4 rfl rfl)
theorem dX4_init_168 : decode cX4_init 168 = .ok (.newarray .int, 2) := dk_188_10 (dk_at dksX4_init_7 7 rfl rfl)
theorem dX4_init_170 : decode cX4_init 170 = .ok (.putfield 78, 3) := dk_181 0 78 (dk_at dksX4_init_7 9 rfl rfl)
theorem dX4_init_173 : decode cX4_init 173 = .ok (.aload_n 0, 1) := dk_42 (dk_at dksX4_init_7 12 rfl rfl)
theorem dX4_init_174 : decode cX4_init 174 = .ok (.bipush 30, 2) := dk_16 30 (dk_at dksX4_init_7 13 rfl rfl)
theorem dX4_init_176 : decode cX4_init 176 = .ok (.newarray .int, 2) := dk_188_10 (dk_at dksX4_init_7 15 rfl rfl)
theorem dX4_init_178 : decode cX4_init 178 = .ok (.putfield 81, 3) := dk_181 0 81 (dk_at dksX4_init_7 17 rfl rfl)
theorem dX4_init_181 : decode cX4_init 181 = .ok (.aload_n 0, 1) := dk_42 (dk_at dksX4_init_7 20 rfl rfl)
theorem dX4_init_182 : decode cX4_init 182 = .ok (.bipush 30, 2) := dk_16 30 (dk_at dksX4_init_7 21 rfl rfl)
theorem dX4_init_184 : decode cX4_init 184 = .ok (.newarray .int, 2) := dk_188_10 (dk_at dksX4_init_8 0 rfl rfl)
theorem dX4_init_186 : decode cX4_init 186 = .ok (.putfield 84, 3) := dk_181 0 84 (dk_at dksX4_init_8 2 rfl rfl)
theorem dX4_init_189 : decode cX4_init 189 = .ok (.aload_n 0, 1) := dk_42 (dk_at dksX4_init_8 5 rfl rfl)
theorem dX4_init_190 : decode cX4_init 190 = .ok (.bipush 9, 2) := dk_16 9 (dk_at dksX4_init_8 6 rfl rfl)
theorem dX4_init_192 : decode cX4_init 192 = .ok (.newarray .int, 2) := dk_188_10 (dk_at dksX4_init_8 8 rfl rfl)
theorem dX4_init_194 : decode cX4_init 194 = .ok (.putfield 87, 3) := dk_181 0 87 (dk_at dksX4_init_8 10 rfl rfl)
theorem dX4_init_197 : decode cX4_init 197 = .ok (.aload_n 0, 1) := dk_42 (dk_at dksX4_init_8 13 rfl rfl)
theorem dX4_init_198 : decode cX4_init 198 = .ok (.sipush 4608, 3) := dk_17 18 0 (dk_at dksX4_init_8 14 rfl rfl)
theorem dX4_init_201 : decode cX4_init 201 = .ok (.newarray .int, 2) := dk_188_10 (dk_at dksX4_init_8 17 rfl rfl)
theorem dX4_init_203 : decode cX4_init 203 = .ok (.putfield 90, 3) := dk_181 0 90 (dk_at dksX4_init_8 19 rfl rfl)
theorem dX4_init_206 : decode cX4_init 206 = .ok (.aload_n 0, 1) := dk_42 (dk_at dksX4_init_8 22 rfl rfl)
theorem dX4_init_207 : decode cX4_init 207 = .ok (.bipush 24, 2) := dk_16 24 (dk_at dksX4_init_9 0 rfl rfl)
theorem dX4_init_209 : decode cX4_init 209 = .ok (.newarray .int, 2) := dk_188_10 (dk_at dksX4_init_9 2 rfl rfl)
theorem dX4_init_211 : decode cX4_init 211 = .ok (.putfield 93, 3) := dk_181 0 93 (dk_at dksX4_init_9 4 rfl rfl)
theorem dX4_init_214 : decode cX4_init 214 = .ok (.aload_n 0, 1) := dk_42 (dk_at dksX4_init_9 7 rfl rfl)
theorem dX4_init_215 : decode cX4_init 215 = .ok (.bipush 30, 2) := dk_16 30 (dk_at dksX4_init_9 8 rfl rfl)
theorem dX4_init_217 : decode cX4_init 217 = .ok (.newarray .int, 2) := dk_188_10 (dk_at dksX4_init_9 10 rfl rfl)
theorem dX4_init_219 : decode cX4_init 219 = .ok (.putfield 96, 3) := dk_181 0 96 (dk_at dksX4_init_9 12 rfl rfl)
theorem dX4_init_222 : decode cX4_init 222 = .ok (.aload_n 0, 1) := dk_42 (dk_at dksX4_init_9 15 rfl rfl)
theorem dX4_init_223 : decode cX4_init 223 = .ok (.sipush 3600, 3) := dk_17 14 16 (dk_at dksX4_init_9 16 rfl rfl)
theorem dX4_init_226 : decode cX4_init 226 = .ok (.newarray .int, 2) := dk_188_10 (dk_at dksX4_init_9 19 rfl rfl)
theorem dX4_init_228 : decode cX4_init 228 = .ok (.putfield 99, 3) := dk_181 0 99 (dk_at dksX4_init_9 21 rfl rfl)
theorem dX4_init_231 : decode cX4_init 231 = .ok (.aload_n 0, 1) := dk_42 (dk_at dksX4_init_10 0 rfl rfl)
theorem dX4_init_232 : decode cX4_init 232 = .ok (.bipush 121, 2) := dk_16 121 (dk_at dksX4_init_10 1 rfl rfl)
theorem dX4_init_234 : decode cX4_init 234 = .ok (.newarray .int, 2) := dk_188_10 (dk_at dksX4_init_10 3 rfl rfl)
theorem dX4_init_236 : decode cX4_init 236 = .ok (.putfield 102, 3) := dk_181 0 102 (dk_at dksX4_init_10 5 rfl rfl)
theorem dX4_init_239 : decode cX4_init 239 = .ok (.aload_n 0, 1) := dk_42 (dk_at dksX4_init_10 8 rfl rfl)
theorem dX4_init_240 : decode cX4_init 240 = .ok (.sipush 4840, 3) := dk_17 18 232 (dk_at dksX4_init_10 9 rfl rfl)
theorem dX4_init_243 : decode cX4_init 243 = .ok (.newarray .int, 2) := dk_188_10 (dk_at dksX4_init_10 12 rfl rfl)
theorem dX4_init_245 : decode cX4_init 245 = .ok (.putfield 105, 3) := dk_181 0 105 (dk_at dksX4_init_10 14 rfl rfl)
theorem dX4_init_248 : decode cX4_init 248 = .ok (.aload_n 0, 1) := dk_42 (dk_at dksX4_init_10 17 rfl rfl)
theorem dX4_init_249 : decode cX4_init 249 = .ok (.bipush 24, 2) := dk_16 24 (dk_at dksX4_init_10 18 rfl rfl)
theorem dX4_init_251 : decode cX4_init 251 = .ok (.newarray .int, 2) := dk_188_10 (dk_at dksX4_init_10 20 rfl rfl)
theorem dX4_init_253 : decode cX4_init 253 = .ok (.putfield 108, 3) := dk_181 0 108 (dk_at dksX4_init_11 0 rfl rfl)
theorem dX4_init_256 : decode cX4_init 256 = .ok (.iconst 0, 1) := dk_3 (dk_at dksX4_init_11 3 rfl rfl)
theorem dX4_init_257 : decode cX4_init 257 = .ok (.istore_n 1, 1) := dk_60 (dk_at dksX4_init_11 4 rfl rfl)
theorem dX4_init_258 : decode cX4_init 258 = .ok (.iload_n 1, 1) := dk_27 (dk_at dksX4_init_11 5 rfl rfl)
theorem dX4_init_259 : decode cX4_init 259 = .ok (.bipush 30, 2) := dk_16 30 (dk_at dksX4_init_11 6 rfl rfl)
theorem dX4_init_261 : decode cX4_init 261 = .ok (.if_icmp .ge 18, 3) := dk_162 0 18 (dk_at dksX4_init_11 8 rfl rfl)
theorem dX4_init_264 : decode cX4_init 264 = .ok (.aload_n 0, 1) := dk_42 (dk_at dksX4_init_11 11 rfl rfl)
theorem dX4_init_265 : decode cX4_init 265 = .ok (.aload_n 0, 1) := dk_42 (dk_at dksX4_init_11 12 rfl rfl)
theorem dX4_init_266 : decode cX4_init 266 = .ok (.getfield 69, 3) := dk_180 0 69 (dk_at dksX4_init_11 13 rfl rfl)
theorem dX4_init_269 : decode cX4_init 269 = .ok (.iload_n 1, 1) := dk_27 (dk_at dksX4_init_11 16 rfl rfl)
theorem dX4_init_270 : decode cX4_init 270 = .ok (.invokevirtual 111, 3) := dk_182 0 111 (dk_at dksX4_init_11 17 rfl rfl)
theorem dX4_init_273 : decode cX4_init 273 = .ok (.iinc 1 1, 3) := dk_132 1 1 (dk_at dksX4_init_11 20 rfl rfl)
theorem dX4_init_276 : decode cX4_init 276 = .ok (.goto (-18), 3) := dk_167 255 238 (dk_at dksX4_init_12 0 rfl rfl)
theorem dX4_init_279 : decode cX4_init 279 = .ok (.return_, 1) := dk_177 (dk_at dksX4_init_12 3 rfl rfl)
abbrev mX4_init : xM := (yX4_init, cX4_init, 2, none, [])
theorem cI4_111 : xCV RX4 111 mX4_empties 2 := ⟨lw_V q1559 q1561 qs52 q127 q1562, rfl, ⟨by decide +kernel, by decide +kernel, by decide +kernel⟩, Nat.le_of_ble_eq_true rfl⟩
def m_fill : Nat → Int32 → MS → Option MS
  | 0 => fun _ _ => none
  | n + 1 => fun x1 S => if 30 ≤ x1 then some S else (m_empties 13 x1 S).bind fun q => m_fill n (x1 + 1) q
theorem m_fill_ok {G : xG} {m0 : Nat} {Y : xR} {h : xH} {N Z : Nat} (hM : Y.1 = mX4_init) (hD : 3 ≤ Y.2.1.frames ∧ 64 * 3 ≤ Y.2.1.locals) : ∀ (n : Nat) (x1 : Int32) (S : MS) (q : MS), m_fill n x1 S = some q → Y.2.2.2 = (.inl none, (mh m0 h q, N, Z)) → Xr G Y 258 [(0, .ref m0), (1, .int x1)] [] (mh m0 h S, N, Z)
  | 0, _, _, _, hf, _ => by cases hf
  | n + 1, x1, S, q, hf, ho => by
    obtain ⟨M, R, T0, o, T1⟩ := Y
    dsimp only at hM hD ho
    subst hM
    cases ho
    unfold m_fill at hf
    refine X.iload_n dX4_init_258 rfl 1 rfl ?_
    refine X.bipush (v := 30) dX4_init_259 (by decide) ?_
    refine X.icmp_ge (tgt := 279) dX4_init_261 (by decide) (fun c => ?_) (fun c => ?_)
    · have hf := if_t c hf
      cases hf
      exact X.vret dX4_init_279 rfl rfl
    · have hf := if_f c hf
      obtain ⟨q1, h1, hf⟩ := ob hf
      refine X.aload_n dX4_init_264 rfl 0 rfl ?_
      refine X.aload_n dX4_init_265 rfl 0 rfl ?_
      refine M.get (v := .ref (m0 + 13)) dX4_init_266 fX4_69 (Nat.le_of_ble_eq_true rfl) rfl ?_
      refine X.iload_n dX4_init_269 rfl 1 rfl ?_
      refine X.callVv (As := [.ref (m0 + 13), .int x1]) (rest := []) (T2 := (mh m0 h q1, N, Z)) dX4_init_270 (w_empties h1 h N Z) cI4_111 rfl rfl (Nat.le_of_ble_eq_true rfl) mh_0 rfl rfl ⟨by dsimp only; omega, by dsimp only; omega⟩ xleN xleN ?_
      refine X.iinc (v := (x1 + 1)) (L' := [(1, .int (x1 + 1)), (0, .ref m0)]) dX4_init_273 1 rfl rfl (Nat.le_of_ble_eq_true rfl) rfl ?_
      refine X.goto (tgt := 258) dX4_init_276 (by decide) ?_
      refine X.sub [1, 0] (L' := [(0, .ref m0), (1, .int (x1 + 1))]) rfl ?_
      exact m_fill_ok (Y := (mX4_init, R, T0, .inl none, (mh m0 h q, N, Z))) rfl hD n _ _ _ hf rfl
theorem mDf_set (m0 : Nat) : (((((((((((((((((((((((((((((((((mDf.set 1 (.int (3))).set 2 (.int (3))).set 5 (.int (9))).set 6 (.int (6))).set 7 (.int (-1))).set 8 (.int (-1))).set 9 (.ref (m0 + 1))).set 10 (.ref (m0 + 2))).set 11 (.ref (m0 + 3))).set 12 (.ref (m0 + 4))).set 15 (.int (-1))).set 16 (.ref (m0 + 5))).set 37 (.ref (m0 + 6))).set 38 (.ref (m0 + 7))).set 39 (.ref (m0 + 8))).set 40 (.ref (m0 + 9))).set 41 (.ref (m0 + 10))).set 42 (.ref (m0 + 11))).set 43 (.ref (m0 + 12))).set 44 (.ref (m0 + 13))).set 45 (.ref (m0 + 14))).set 47 (.ref (m0 + 15))).set 48 (.ref (m0 + 16))).set 49 (.ref (m0 + 17))).set 50 (.ref (m0 + 18))).set 51 (.ref (m0 + 19))).set 52 (.ref (m0 + 20))).set 54 (.ref (m0 + 21))).set 55 (.ref (m0 + 22))).set 56 (.ref (m0 + 23))).set 61 (.ref (m0 + 24))).set 62 (.ref (m0 + 25))).set 63 (.ref (m0 + 26))) = mfl m0 mS0 := by
  simp only [mDf, List.set_cons_succ, List.set_cons_zero]
  rfl
/-- the constructor: of the fresh object it makes the reference's 27 cells -/
theorem w_init {G : xG} {m0 : Nat} {q : MS} (hq : m_fill 31 0 mS0 = some q) (h : xH) (Z : Nat) : Ct G mX4_init 4 (pm m0 h mDf 0, m0 + 1, Z) [.ref m0] (.inl none) (mh m0 h q, m0 + 27, Z + mZ 26) := by
  refine Ct.of (by decide +kernel) rfl (Nat.le_of_ble_eq_true rfl) (show Xr G _ 0 [(0, .ref m0)] [] _ from ?_)
  have hD1 : 1 ≤ (xrm 4 (pm m0 h mDf 0, m0 + 1, Z) (mh m0 h q, m0 + 27, Z + mZ 26)).frames ∧ 64 ≤ (xrm 4 (pm m0 h mDf 0, m0 + 1, Z) (mh m0 h q, m0 + 27, Z + mZ 26)).locals := xD1 (by decide)
  have hZ : ∀ (j : Nat) (z : Nat) (h9 : xH), j ≤ 26 → Z + mZ j = z → xle (h9, m0 + 1 + j, z) (mh m0 h q, m0 + 27, Z + mZ 26) := fun j z h9 hj hz => by
    refine ⟨by show m0 + 1 + j ≤ m0 + 27; omega, ?_⟩
    show z ≤ Z + mZ 26
    have : ∀ j, j ≤ 26 → mZ j ≤ mZ 26 := by decide
    have := this j hj
    omega
  refine X.aload_n dX4_init_0 rfl 0 rfl ?_
  refine X.objInit dX4_init_1 q1558 obj1 obj2 (Nat.le_of_ble_eq_true rfl) hD1 ?_
  refine X.aload_n dX4_init_4 rfl 0 rfl ?_
  refine X.iconst (v := 3) dX4_init_5 (by decide) ?_
  refine P.put dX4_init_6 fX4_7 (fun _ => rfl) rfl rfl ?_
  refine X.aload_n dX4_init_9 rfl 0 rfl ?_
  refine X.iconst (v := 3) dX4_init_10 (by decide) ?_
  refine P.put dX4_init_11 fX4_13 (fun _ => rfl) rfl rfl ?_
  refine X.aload_n dX4_init_14 rfl 0 rfl ?_
  refine X.bipush (v := 9) dX4_init_15 (by decide) ?_
  refine P.put dX4_init_17 fX4_16 (fun _ => rfl) rfl rfl ?_
  refine X.aload_n dX4_init_20 rfl 0 rfl ?_
  refine X.bipush (v := 6) dX4_init_21 (by decide) ?_
  refine P.put dX4_init_23 fX4_19 (fun _ => rfl) rfl rfl ?_
  refine X.aload_n dX4_init_26 rfl 0 rfl ?_
  refine X.iconst (v := -1) dX4_init_27 (by decide) ?_
  refine P.put dX4_init_28 fX4_22 (fun _ => rfl) rfl rfl ?_
  refine X.aload_n dX4_init_31 rfl 0 rfl ?_
  refine X.iconst (v := -1) dX4_init_32 (by decide) ?_
  refine P.put dX4_init_33 fX4_25 (fun _ => rfl) rfl rfl ?_
  refine X.aload_n dX4_init_36 rfl 0 rfl ?_
  refine X.iconst (v := 4) dX4_init_37 (by decide) ?_
  refine P.newa (k := 0) (n' := 4) dX4_init_38 rfl (by decide) rfl q194 rfl (by decide) (by decide) (by decide) (by decide) rfl rfl (hZ 1 _ _ (by decide) rfl) ?_
  refine P.put dX4_init_40 fX4_28 (fun _ => rfl) rfl rfl ?_
  refine X.aload_n dX4_init_43 rfl 0 rfl ?_
  refine X.bipush (v := 8) dX4_init_44 (by decide) ?_
  refine P.newa (k := 1) (n' := 8) dX4_init_46 rfl (by decide) rfl q194 rfl (by decide) (by decide) (by decide) (by decide) rfl rfl (hZ 2 _ _ (by decide) rfl) ?_
  refine P.put dX4_init_48 fX4_32 (fun _ => rfl) rfl rfl ?_
  refine X.aload_n dX4_init_51 rfl 0 rfl ?_
  refine X.sipush (v := 1400) dX4_init_52 (by decide) ?_
  refine P.newa (k := 2) (n' := 1400) dX4_init_55 rfl (by decide) rfl q194 rfl (by decide) (by decide) (by decide) (by decide) rfl rfl (hZ 3 _ _ (by decide) rfl) ?_
  refine P.put dX4_init_57 fX4_35 (fun _ => rfl) rfl rfl ?_
  refine X.aload_n dX4_init_60 rfl 0 rfl ?_
  refine X.sipush (v := 700) dX4_init_61 (by decide) ?_
  refine P.newa (k := 3) (n' := 700) dX4_init_64 rfl (by decide) rfl q194 rfl (by decide) (by decide) (by decide) (by decide) rfl rfl (hZ 4 _ _ (by decide) rfl) ?_
  refine P.put dX4_init_66 fX4_38 (fun _ => rfl) rfl rfl ?_
  refine X.aload_n dX4_init_69 rfl 0 rfl ?_
  refine X.iconst (v := -1) dX4_init_70 (by decide) ?_
  refine P.put dX4_init_71 fX4_41 (fun _ => rfl) rfl rfl ?_
  refine X.aload_n dX4_init_74 rfl 0 rfl ?_
  refine X.iconst (v := 3) dX4_init_75 (by decide) ?_
  refine P.newa (k := 4) (n' := 3) dX4_init_76 rfl (by decide) rfl q194 rfl (by decide) (by decide) (by decide) (by decide) rfl rfl (hZ 5 _ _ (by decide) rfl) ?_
  refine P.put dX4_init_78 fX4_44 (fun _ => rfl) rfl rfl ?_
  refine X.aload_n dX4_init_81 rfl 0 rfl ?_
  refine X.iconst (v := 4) dX4_init_82 (by decide) ?_
  refine P.newa (k := 5) (n' := 4) dX4_init_83 rfl (by decide) rfl q194 rfl (by decide) (by decide) (by decide) (by decide) rfl rfl (hZ 6 _ _ (by decide) rfl) ?_
  refine P.put dX4_init_85 fX4_47 (fun _ => rfl) rfl rfl ?_
  refine X.aload_n dX4_init_88 rfl 0 rfl ?_
  refine X.bipush (v := 8) dX4_init_89 (by decide) ?_
  refine P.newa (k := 6) (n' := 8) dX4_init_91 rfl (by decide) rfl q194 rfl (by decide) (by decide) (by decide) (by decide) rfl rfl (hZ 7 _ _ (by decide) rfl) ?_
  refine P.put dX4_init_93 fX4_50 (fun _ => rfl) rfl rfl ?_
  refine X.aload_n dX4_init_96 rfl 0 rfl ?_
  refine X.bipush (v := 121) dX4_init_97 (by decide) ?_
  refine P.newa (k := 7) (n' := 121) dX4_init_99 rfl (by decide) rfl q194 rfl (by decide) (by decide) (by decide) (by decide) rfl rfl (hZ 8 _ _ (by decide) rfl) ?_
  refine P.put dX4_init_101 fX4_53 (fun _ => rfl) rfl rfl ?_
  refine X.aload_n dX4_init_104 rfl 0 rfl ?_
  refine X.sipush (v := 1400) dX4_init_105 (by decide) ?_
  refine P.newa (k := 8) (n' := 1400) dX4_init_108 rfl (by decide) rfl q194 rfl (by decide) (by decide) (by decide) (by decide) rfl rfl (hZ 9 _ _ (by decide) rfl) ?_
  refine P.put dX4_init_110 fX4_56 (fun _ => rfl) rfl rfl ?_
  refine X.aload_n dX4_init_113 rfl 0 rfl ?_
  refine X.sipush (v := 950) dX4_init_114 (by decide) ?_
  refine P.newa (k := 9) (n' := 950) dX4_init_117 rfl (by decide) rfl q194 rfl (by decide) (by decide) (by decide) (by decide) rfl rfl (hZ 10 _ _ (by decide) rfl) ?_
  refine P.put dX4_init_119 fX4_59 (fun _ => rfl) rfl rfl ?_
  refine X.aload_n dX4_init_122 rfl 0 rfl ?_
  refine X.bipush (v := 9) dX4_init_123 (by decide) ?_
  refine P.newa (k := 10) (n' := 9) dX4_init_125 rfl (by decide) rfl q1756 rfl (by decide) (by decide) (by decide) (by decide) rfl rfl (hZ 11 _ _ (by decide) rfl) ?_
  refine P.put dX4_init_127 fX4_62 (fun _ => rfl) rfl rfl ?_
  refine X.aload_n dX4_init_130 rfl 0 rfl ?_
  refine X.bipush (v := 30) dX4_init_131 (by decide) ?_
  refine P.newa (k := 11) (n' := 30) dX4_init_133 rfl (by decide) rfl q1756 rfl (by decide) (by decide) (by decide) (by decide) rfl rfl (hZ 12 _ _ (by decide) rfl) ?_
  refine P.put dX4_init_135 fX4_66 (fun _ => rfl) rfl rfl ?_
  refine X.aload_n dX4_init_138 rfl 0 rfl ?_
  refine X.sipush (v := 242) dX4_init_139 (by decide) ?_
  refine P.newa (k := 12) (n' := 242) dX4_init_142 rfl (by decide) rfl q194 rfl (by decide) (by decide) (by decide) (by decide) rfl rfl (hZ 13 _ _ (by decide) rfl) ?_
  refine P.put dX4_init_144 fX4_69 (fun _ => rfl) rfl rfl ?_
  refine X.aload_n dX4_init_147 rfl 0 rfl ?_
  refine X.sipush (v := 4840) dX4_init_148 (by decide) ?_
  refine P.newa (k := 13) (n' := 4840) dX4_init_151 rfl (by decide) rfl q194 rfl (by decide) (by decide) (by decide) (by decide) rfl rfl (hZ 14 _ _ (by decide) rfl) ?_
  refine P.put dX4_init_153 fX4_72 (fun _ => rfl) rfl rfl ?_
  refine X.aload_n dX4_init_156 rfl 0 rfl ?_
  refine X.bipush (v := 8) dX4_init_157 (by decide) ?_
  refine P.newa (k := 14) (n' := 8) dX4_init_159 rfl (by decide) rfl q194 rfl (by decide) (by decide) (by decide) (by decide) rfl rfl (hZ 15 _ _ (by decide) rfl) ?_
  refine P.put dX4_init_161 fX4_75 (fun _ => rfl) rfl rfl ?_
  refine X.aload_n dX4_init_164 rfl 0 rfl ?_
  refine X.sipush (v := 950) dX4_init_165 (by decide) ?_
  refine P.newa (k := 15) (n' := 950) dX4_init_168 rfl (by decide) rfl q194 rfl (by decide) (by decide) (by decide) (by decide) rfl rfl (hZ 16 _ _ (by decide) rfl) ?_
  refine P.put dX4_init_170 fX4_78 (fun _ => rfl) rfl rfl ?_
  refine X.aload_n dX4_init_173 rfl 0 rfl ?_
  refine X.bipush (v := 30) dX4_init_174 (by decide) ?_
  refine P.newa (k := 16) (n' := 30) dX4_init_176 rfl (by decide) rfl q194 rfl (by decide) (by decide) (by decide) (by decide) rfl rfl (hZ 17 _ _ (by decide) rfl) ?_
  refine P.put dX4_init_178 fX4_81 (fun _ => rfl) rfl rfl ?_
  refine X.aload_n dX4_init_181 rfl 0 rfl ?_
  refine X.bipush (v := 30) dX4_init_182 (by decide) ?_
  refine P.newa (k := 17) (n' := 30) dX4_init_184 rfl (by decide) rfl q194 rfl (by decide) (by decide) (by decide) (by decide) rfl rfl (hZ 18 _ _ (by decide) rfl) ?_
  refine P.put dX4_init_186 fX4_84 (fun _ => rfl) rfl rfl ?_
  refine X.aload_n dX4_init_189 rfl 0 rfl ?_
  refine X.bipush (v := 9) dX4_init_190 (by decide) ?_
  refine P.newa (k := 18) (n' := 9) dX4_init_192 rfl (by decide) rfl q194 rfl (by decide) (by decide) (by decide) (by decide) rfl rfl (hZ 19 _ _ (by decide) rfl) ?_
  refine P.put dX4_init_194 fX4_87 (fun _ => rfl) rfl rfl ?_
  refine X.aload_n dX4_init_197 rfl 0 rfl ?_
  refine X.sipush (v := 4608) dX4_init_198 (by decide) ?_
  refine P.newa (k := 19) (n' := 4608) dX4_init_201 rfl (by decide) rfl q194 rfl (by decide) (by decide) (by decide) (by decide) rfl rfl (hZ 20 _ _ (by decide) rfl) ?_
  refine P.put dX4_init_203 fX4_90 (fun _ => rfl) rfl rfl ?_
  refine X.aload_n dX4_init_206 rfl 0 rfl ?_
  refine X.bipush (v := 24) dX4_init_207 (by decide) ?_
  refine P.newa (k := 20) (n' := 24) dX4_init_209 rfl (by decide) rfl q194 rfl (by decide) (by decide) (by decide) (by decide) rfl rfl (hZ 21 _ _ (by decide) rfl) ?_
  refine P.put dX4_init_211 fX4_93 (fun _ => rfl) rfl rfl ?_
  refine X.aload_n dX4_init_214 rfl 0 rfl ?_
  refine X.bipush (v := 30) dX4_init_215 (by decide) ?_
  refine P.newa (k := 21) (n' := 30) dX4_init_217 rfl (by decide) rfl q194 rfl (by decide) (by decide) (by decide) (by decide) rfl rfl (hZ 22 _ _ (by decide) rfl) ?_
  refine P.put dX4_init_219 fX4_96 (fun _ => rfl) rfl rfl ?_
  refine X.aload_n dX4_init_222 rfl 0 rfl ?_
  refine X.sipush (v := 3600) dX4_init_223 (by decide) ?_
  refine P.newa (k := 22) (n' := 3600) dX4_init_226 rfl (by decide) rfl q194 rfl (by decide) (by decide) (by decide) (by decide) rfl rfl (hZ 23 _ _ (by decide) rfl) ?_
  refine P.put dX4_init_228 fX4_99 (fun _ => rfl) rfl rfl ?_
  refine X.aload_n dX4_init_231 rfl 0 rfl ?_
  refine X.bipush (v := 121) dX4_init_232 (by decide) ?_
  refine P.newa (k := 23) (n' := 121) dX4_init_234 rfl (by decide) rfl q194 rfl (by decide) (by decide) (by decide) (by decide) rfl rfl (hZ 24 _ _ (by decide) rfl) ?_
  refine P.put dX4_init_236 fX4_102 (fun _ => rfl) rfl rfl ?_
  refine X.aload_n dX4_init_239 rfl 0 rfl ?_
  refine X.sipush (v := 4840) dX4_init_240 (by decide) ?_
  refine P.newa (k := 24) (n' := 4840) dX4_init_243 rfl (by decide) rfl q194 rfl (by decide) (by decide) (by decide) (by decide) rfl rfl (hZ 25 _ _ (by decide) rfl) ?_
  refine P.put dX4_init_245 fX4_105 (fun _ => rfl) rfl rfl ?_
  refine X.aload_n dX4_init_248 rfl 0 rfl ?_
  refine X.bipush (v := 24) dX4_init_249 (by decide) ?_
  refine P.newa (k := 25) (n' := 24) dX4_init_251 rfl (by decide) rfl q194 rfl (by decide) (by decide) (by decide) (by decide) rfl rfl (hZ 26 _ _ (by decide) rfl) ?_
  refine P.put dX4_init_253 fX4_108 (fun _ => rfl) rfl rfl ?_
  refine X.iconst (v := 0) dX4_init_256 (by decide) ?_
  refine X.istore_n (L' := [(1, .int 0), (0, .ref m0)]) dX4_init_257 rfl (Nat.le_of_ble_eq_true rfl) rfl ?_
  refine X.sub [1, 0] (L' := [(0, .ref m0), (1, .int 0)]) rfl ?_
  rw [mDf_set, pm_mh rfl (fun _ _ => rfl)]
  exact m_fill_ok (N := m0 + 27) (Z := Z + mZ 26) rfl ⟨Nat.le_of_ble_eq_true rfl, Nat.le_of_ble_eq_true rfl⟩ 31 _ _ _ hq rfl
