/-! ===== THE ABSTRACT MACHINE: a pure interpreter of the decoded bytes ===== -/
/-- an int, a long, a reference (0: null), nothing -/
abbrev AV : Type := Int ⊕ Int ⊕ Nat ⊕ Unit
abbrev vI (z : Int) : AV := Sum.inl z
abbrev vJ (z : Int) : AV := Sum.inr (Sum.inl z)
abbrev vR (a : Nat) : AV := Sum.inr (Sum.inr (Sum.inl a))
abbrev vX : AV := Sum.inr (Sum.inr (Sum.inr ()))
/-- an outcome: returned (perhaps a value), threw -/
abbrev AO : Type := Option AV ⊕ Nat
abbrev oV : AO := Sum.inl none
abbrev oR (v : AV) : AO := Sum.inl (some v)
abbrev oT (a : Nat) : AO := Sum.inr a
/-- the heap: next address, slots used, kinds, lengths, ints (and longs), references -/
abbrev AH : Type := Nat × Nat × (Nat → Nat) × (Nat → Int) × (Nat → Int → Int) × (Nat → Int → Nat)
def hN (h : AH) : Nat := h.1
def hU (h : AH) : Nat := h.2.1
def hK (h : AH) (a : Nat) : Nat := h.2.2.1 a
def hL (h : AH) (a : Nat) : Int := h.2.2.2.1 a
def gI (h : AH) (a : Nat) (k : Int) : Int := h.2.2.2.2.1 a k
def gR (h : AH) (a : Nat) (k : Int) : Nat := h.2.2.2.2.2 a k
def sI (h : AH) (a : Nat) (k v : Int) : AH := (h.1, h.2.1, h.2.2.1, h.2.2.2.1, (fun b j => if b = a ∧ j = k then v else h.2.2.2.2.1 b j), h.2.2.2.2.2)
def sR (h : AH) (a : Nat) (k : Int) (v : Nat) : AH := (h.1, h.2.1, h.2.2.1, h.2.2.2.1, h.2.2.2.2.1, (fun b j => if b = a ∧ j = k then v else h.2.2.2.2.2 b j))
/-- a new cell of kind c, length n, u slots -/
def nw (h : AH) (c : Nat) (n : Int) (u : Nat) : AH := (h.1 + 1, h.2.1 + u, (fun b => if b = h.1 then c else h.2.2.1 b), (fun b => if b = h.1 then n else h.2.2.2.1 b), (fun b j => if b = h.1 then 0 else h.2.2.2.2.1 b j), (fun b j => if b = h.1 then 0 else h.2.2.2.2.2 b j))
/-- part of an array copied into another -/
def cpI (h : AH) (s : Nat) (sp : Int) (t : Nat) (tp n : Int) : AH := (h.1, h.2.1, h.2.2.1, h.2.2.2.1, (fun b j => if b = t ∧ tp ≤ j ∧ j < tp + n then h.2.2.2.2.1 s (sp + (j - tp)) else h.2.2.2.2.1 b j), h.2.2.2.2.2)
def cpR (h : AH) (s : Nat) (sp : Int) (t : Nat) (tp n : Int) : AH := (h.1, h.2.1, h.2.2.1, h.2.2.2.1, h.2.2.2.2.1, (fun b j => if b = t ∧ tp ≤ j ∧ j < tp + n then h.2.2.2.2.2 s (sp + (j - tp)) else h.2.2.2.2.2 b j))
/-- arithmetic -/
def w32 (z : Int) : Int := Int.bmod z 4294967296
def w64 (z : Int) : Int := Int.bmod z 18446744073709551616
def iAnd (a b : Int) : Int := (Int32.ofInt a &&& Int32.ofInt b).toInt
def iOr (a b : Int) : Int := (Int32.ofInt a ||| Int32.ofInt b).toInt
def iXor (a b : Int) : Int := (Int32.ofInt a ^^^ Int32.ofInt b).toInt
def iShl (a b : Int) : Int := (Int32.ofInt a <<< (Int32.ofInt b &&& 31)).toInt
def iShr (a b : Int) : Int := (Int32.ofInt a >>> (Int32.ofInt b &&& 31)).toInt
def iUshr (a b : Int) : Int := ((Int32.ofInt a).toUInt32 >>> ((Int32.ofInt b).toUInt32 &&& Int32.toUInt32 31)).toInt32.toInt
def jAnd (a b : Int) : Int := (Int64.ofInt a &&& Int64.ofInt b).toInt
def jOr (a b : Int) : Int := (Int64.ofInt a ||| Int64.ofInt b).toInt
def jXor (a b : Int) : Int := (Int64.ofInt a ^^^ Int64.ofInt b).toInt
def jShl (a b : Int) : Int := (Int64.ofInt a <<< ((Int32.ofInt b).toInt64 &&& 63)).toInt
def jShr (a b : Int) : Int := (Int64.ofInt a >>> ((Int32.ofInt b).toInt64 &&& 63)).toInt
def jUshr (a b : Int) : Int := ((Int64.ofInt a).toUInt64 >>> ((Int32.ofInt b).toInt64.toUInt64 &&& Int64.toUInt64 63)).toInt64.toInt
def i2bZ (a : Int) : Int := (Int32.ofInt a).toInt8.toInt32.toInt
def i2cZ (a : Int) : Int := ((Int32.ofInt a).toUInt32 % 65536).toInt32.toInt
def jCmp (a b : Int) : Int := if a < b then -1 else if a = b then 0 else 1
abbrev b01 (z : Int) : Prop := z = 0 ∨ z = 1
/-- what an instruction does: goes on, ends, calls -/
abbrev NX : Type := (Nat × List AV × List AV × AH) ⊕ AO ⊕ (Nat × List AV × List AV)
def bc_go (pc len : Nat) (ls : List AV) (h : AH) : Option (List AV) → Option NX
  | some st => some (.inl (pc + len, ls, st, h))
  | none => none
def bc_i2 (f : Int → Int → Int) : List AV → Option (List AV)
  | .inl b :: .inl a :: r => some (vI (f a b) :: r)
  | _ => none
def bc_j2 (f : Int → Int → Int) : List AV → Option (List AV)
  | .inr (.inl b) :: .inr (.inl a) :: r => some (vJ (f a b) :: r)
  | _ => none
def bc_ji (f : Int → Int → Int) : List AV → Option (List AV)
  | .inl b :: .inr (.inl a) :: r => some (vJ (f a b) :: r)
  | _ => none
def bc_i1 (f : Int → AV) : List AV → Option (List AV)
  | .inl a :: r => some (f a :: r)
  | _ => none
def bc_j1 (f : Int → AV) : List AV → Option (List AV)
  | .inr (.inl a) :: r => some (f a :: r)
  | _ => none
def bc_idiv : List AV → Option (List AV)
  | .inl b :: .inl a :: r => if b = 0 then none else some (vI (w32 (Int.tdiv a b)) :: r)
  | _ => none
def bc_irem : List AV → Option (List AV)
  | .inl b :: .inl a :: r => if b = 0 then none else some (vI (Int.tmod a b) :: r)
  | _ => none
def bc_jdiv : List AV → Option (List AV)
  | .inr (.inl b) :: .inr (.inl a) :: r => if b = 0 then none else some (vJ (w64 (Int.tdiv a b)) :: r)
  | _ => none
def bc_jrem : List AV → Option (List AV)
  | .inr (.inl b) :: .inr (.inl a) :: r => if b = 0 then none else some (vJ (Int.tmod a b) :: r)
  | _ => none
def bc_lcmp : List AV → Option (List AV)
  | .inr (.inl b) :: .inr (.inl a) :: r => some (vI (jCmp a b) :: r)
  | _ => none
def bc_ldI (ls : List AV) (n : Nat) (st : List AV) : Option (List AV) := match ls[n]? with
  | some (.inl z) => some (vI z :: st)
  | _ => none
def bc_ldJ (ls : List AV) (n : Nat) (st : List AV) : Option (List AV) := match ls[n]? with
  | some (.inr (.inl z)) => some (vJ z :: st)
  | _ => none
def bc_ldR (ls : List AV) (n : Nat) (st : List AV) : Option (List AV) := match ls[n]? with
  | some (.inr (.inr (.inl z))) => some (vR z :: st)
  | _ => none
/-- a long's second half is overwritten -/
def bc_kill (ls : List AV) : Nat → List AV
  | 0 => ls
  | m + 1 => match ls[m]? with
    | some (.inr (.inl _)) => ls.set m vX
    | _ => ls
def bc_st1 (ls : List AV) (n : Nat) (v : AV) : Option (List AV) := if n < ls.length then some ((bc_kill ls n).set n v) else none
def bc_st2 (ls : List AV) (n : Nat) (v : AV) : Option (List AV) := if n + 1 < ls.length then some (((bc_kill ls n).set n v).set (n + 1) vX) else none
def bc_stI (pc len : Nat) (ls : List AV) (h : AH) (n : Nat) : List AV → Option NX
  | .inl z :: r => match bc_st1 ls n (vI z) with
    | some ls' => some (.inl (pc + len, ls', r, h))
    | none => none
  | _ => none
def bc_stR (pc len : Nat) (ls : List AV) (h : AH) (n : Nat) : List AV → Option NX
  | .inr (.inr (.inl z)) :: r => match bc_st1 ls n (vR z) with
    | some ls' => some (.inl (pc + len, ls', r, h))
    | none => none
  | _ => none
def bc_stJ (pc len : Nat) (ls : List AV) (h : AH) (n : Nat) : List AV → Option NX
  | .inr (.inl z) :: r => match bc_st2 ls n (vJ z) with
    | some ls' => some (.inl (pc + len, ls', r, h))
    | none => none
  | _ => none
def bc_inc (pc len : Nat) (ls : List AV) (h : AH) (n : Nat) (z : Int) (st : List AV) : Option NX := match ls[n]? with
  | some (.inl a) => match bc_st1 ls n (vI (w32 (a + z))) with
    | some ls' => some (.inl (pc + len, ls', st, h))
    | none => none
  | _ => none
def bc_isC2 : AV → Bool
  | .inr (.inl _) => true
  | _ => false
def bc_isX : AV → Bool
  | .inr (.inr (.inr _)) => true
  | _ => false
def bc_dup : List AV → Option (List AV)
  | a :: r => if bc_isC2 a || bc_isX a then none else some (a :: a :: r)
  | _ => none
def bc_dupx1 : List AV → Option (List AV)
  | a :: b :: r => if bc_isC2 a || bc_isX a || bc_isC2 b || bc_isX b then none else some (a :: b :: a :: r)
  | _ => none
def bc_dup2 : List AV → Option (List AV)
  | .inr (.inl z) :: r => some (vJ z :: vJ z :: r)
  | a :: b :: r => if bc_isC2 a || bc_isX a || bc_isC2 b || bc_isX b then none else some (a :: b :: a :: b :: r)
  | _ => none
def bc_pop : List AV → Option (List AV)
  | a :: r => if bc_isC2 a || bc_isX a then none else some r
  | _ => none
def bc_cc (c : Jvm.ClassFile.Cond) (a b : Int) : Bool := match c with
  | .eq => decide (a = b)
  | .ne => decide (¬ a = b)
  | .lt => decide (a < b)
  | .ge => decide (b ≤ a)
  | .gt => decide (b < a)
  | .le => decide (a ≤ b)
def bc_jmp (pc : Nat) (off : Int) (ls st : List AV) (h : AH) : Option NX := if 0 ≤ (pc : Int) + off then some (.inl (((pc : Int) + off).toNat, ls, st, h)) else none
def bc_br (b : Bool) (pc : Nat) (off : Int) (ls st : List AV) (h : AH) : Option NX := if b then bc_jmp pc off ls st h else some (.inl (pc + 3, ls, st, h))
/-- of a value, in a place of a type (0 int, 1 boolean, 2 byte, 3 long, 4 reference) -/
def bc_rd (h : AH) (a : Nat) (j : Int) : Nat → AV
  | 3 => vJ (gI h a j)
  | 4 => vR (gR h a j)
  | _ => vI (gI h a j)
def bc_wr (h : AH) (a : Nat) (j : Int) : Nat → AV → Option AH
  | 0, .inl z => some (sI h a j z)
  | 1, .inl z => if z = 0 ∨ z = 1 then some (sI h a j z) else none
  | 2, .inl z => if -128 ≤ z ∧ z ≤ 127 then some (sI h a j z) else none
  | 3, .inr (.inl z) => some (sI h a j z)
  | 4, .inr (.inr (.inl z)) => some (sR h a j z)
  | _, _ => none
def bc_getf (pc : Nat) (ls : List AV) (h : AH) (fl : Nat → Option (Int × Nat × Nat)) : List AV → Option NX
  | .inr (.inr (.inl a)) :: r => match fl (hK h a) with
    | some (j, t, _) => some (.inl (pc + 3, ls, bc_rd h a j t :: r, h))
    | none => none
  | _ => none
def bc_putf (pc : Nat) (ls : List AV) (h : AH) (fl : Nat → Option (Int × Nat × Nat)) (ini : Nat) : List AV → Option NX
  | v :: .inr (.inr (.inl a)) :: r => match fl (hK h a) with
    | some (j, t, f) => if f = 0 ∨ f = ini then (match bc_wr h a j t v with
      | some h' => some (.inl (pc + 3, ls, r, h'))
      | none => none) else none
    | none => none
  | _ => none
/-- arrays: kinds 101 int, 102 long, 103 byte, 104 boolean, 105 Object, 106 Row; not to be written: 107 the script, 108 a text's bytes, 109 the empty array of ArrayList -/
def bc_ald (pc : Nat) (ls : List AV) (h : AH) (ok : Nat → Bool) (t : Nat) : List AV → Option NX
  | .inl i :: .inr (.inr (.inl a)) :: r => if ok (hK h a) = true ∧ 0 ≤ i ∧ i < hL h a then some (.inl (pc + 1, ls, bc_rd h a i t :: r, h)) else none
  | _ => none
def bc_iast (pc : Nat) (ls : List AV) (h : AH) : List AV → Option NX
  | .inl z :: .inl i :: .inr (.inr (.inl a)) :: r => if hK h a = 101 ∧ 0 ≤ i ∧ i < hL h a then some (.inl (pc + 1, ls, r, sI h a i z)) else none
  | _ => none
def bc_jast (pc : Nat) (ls : List AV) (h : AH) : List AV → Option NX
  | .inr (.inl z) :: .inl i :: .inr (.inr (.inl a)) :: r => if hK h a = 102 ∧ 0 ≤ i ∧ i < hL h a then some (.inl (pc + 1, ls, r, sI h a i z)) else none
  | _ => none
def bc_bast (pc : Nat) (ls : List AV) (h : AH) : List AV → Option NX
  | .inl z :: .inl i :: .inr (.inr (.inl a)) :: r =>
    if hK h a = 103 ∧ 0 ≤ i ∧ i < hL h a then some (.inl (pc + 1, ls, r, sI h a i (i2bZ z)))
    else if hK h a = 104 ∧ 0 ≤ i ∧ i < hL h a ∧ (z = 0 ∨ z = 1) then some (.inl (pc + 1, ls, r, sI h a i z)) else none
  | _ => none
def bc_aast (rowK pc : Nat) (ls : List AV) (h : AH) : List AV → Option NX
  | .inr (.inr (.inl z)) :: .inl i :: .inr (.inr (.inl a)) :: r =>
    if (hK h a = 105 ∧ 1 ≤ hK h z ∧ hK h z ≤ 40 ∨ hK h a = 106 ∧ hK h z = rowK) ∧ 0 ≤ i ∧ i < hL h a then some (.inl (pc + 1, ls, r, sR h a i z)) else none
  | _ => none
def bc_alen (pc : Nat) (ls : List AV) (h : AH) : List AV → Option NX
  | .inr (.inr (.inl a)) :: r => if 101 ≤ hK h a ∧ hK h a ≤ 109 then some (.inl (pc + 1, ls, vI (hL h a) :: r, h)) else none
  | _ => none
def bc_newa (pc len : Nat) (ls : List AV) (h : AH) (c : Nat) : List AV → Option NX
  | .inl n :: r => if 0 ≤ n ∧ n ≤ 100000 then some (.inl (pc + len, ls, vR (hN h) :: r, nw h c n n.toNat)) else none
  | _ => none
def bc_nul (pc : Nat) (off : Int) (ls : List AV) (h : AH) (b : Bool) : List AV → Option NX
  | .inr (.inr (.inl a)) :: r => if a = 0 ∨ hK h a ≠ 0 then bc_br (decide (a = 0) == b) pc off ls r h else none
  | _ => none
def bc_acmp (pc : Nat) (off : Int) (ls : List AV) (h : AH) (b : Bool) : List AV → Option NX
  | .inr (.inr (.inl y)) :: .inr (.inr (.inl x)) :: r => if (hK h x = 105 ∨ hK h x = 109) ∧ (hK h y = 105 ∨ hK h y = 109) then bc_br (decide (x = y) == b) pc off ls r h else none
  | _ => none
def bc_tsw (pc : Nat) (dflt lo hi : Int) (offs : Array Int) (ls : List AV) (h : AH) : List AV → Option NX
  | .inl a :: r => if a < lo ∨ hi < a then bc_jmp pc dflt ls r h else (match offs[(a - lo).toNat]? with
    | some off => bc_jmp pc off ls r h
    | none => none)
  | _ => none
def bc_lsw (pc : Nat) (dflt : Int) (ps : Array (Int × Int)) (ls : List AV) (h : AH) : List AV → Option NX
  | .inl a :: r => if (ps.toList.zip (ps.toList.drop 1)).all (fun (a, next) => a.1 < next.1) = true then bc_jmp pc (Op.lookupswitch.offset ps.toList dflt a) ls r h else none
  | _ => none
/-- an answer of a type: 0 none, 1 int, 2 boolean, 3 char, 4 byte, 5 long, 6 reference -/
def bc_ret : Nat → List AV → Option NX
  | 1, [.inl z] => some (.inr (.inl (oR (vI z))))
  | 2, [.inl z] => if z = 0 ∨ z = 1 then some (.inr (.inl (oR (vI z)))) else none
  | 3, [.inl z] => if 0 ≤ z ∧ z < 65536 then some (.inr (.inl (oR (vI z)))) else none
  | 4, [.inl z] => if -128 ≤ z ∧ z < 128 then some (.inr (.inl (oR (vI z)))) else none
  | 5, [.inr (.inl z)] => some (.inr (.inl (oR (vJ z))))
  | 6, [.inr (.inr (.inl z))] => some (.inr (.inl (oR (vR z))))
  | _, _ => none
def bc_cat (v : AV) : Nat := if bc_isC2 v then 2 else 1
/-- the last n of the stack, in order; what is left -/
def bc_pops : Nat → List AV → List AV → Option (List AV × List AV)
  | 0, acc, st => some (acc, st)
  | n + 1, acc, v :: st => bc_pops n (v :: acc) st
  | _ + 1, _, [] => none
def bc_kopy (h : AH) : List AV → Option AH
  | [.inr (.inr (.inl s)), .inl sp, .inr (.inr (.inl t)), .inl tp, .inl n] =>
    if hK h s = 101 ∧ hK h t = 101 ∧ s ≠ t ∧ 0 ≤ sp ∧ 0 ≤ tp ∧ 0 ≤ n ∧ sp + n ≤ hL h s ∧ tp + n ≤ hL h t then some (cpI h s sp t tp n) else none
  | _ => none
def bc_kopyOf (h : AH) : List AV → Option (AV × AH)
  | [.inr (.inr (.inl s)), .inl n] =>
    if hK h s = 105 ∧ 0 ≤ n ∧ hL h s ≤ n ∧ n ≤ 1000 then some (vR (hN h), cpR (nw h 105 n n.toNat) s 0 (hN h) 0 (hL h s)) else none
  | _ => none
/-- a call: methods, and what is taken as one step: 1000 arraycopy, 1001 copyOf, 1002 a constructor of the JDK's exceptions -/
def bc_inv (pc len : Nat) (ls : List AV) (h : AH) (cal : Nat) (args rest : List AV) : Option NX :=
  if cal = 1000 then (match bc_kopy h args with
    | some h' => some (.inl (pc + len, ls, rest, h'))
    | none => none)
  else if cal = 1001 then (match bc_kopyOf h args with
    | some (v, h') => some (.inl (pc + len, ls, v :: rest, h'))
    | none => none)
  else if cal = 1002 then some (.inl (pc + len, ls, rest, h))
  else if (rest.map bc_cat).sum ≤ 8 then some (.inr (.inr (cal, args, rest))) else none
def bc_invS (pc : Nat) (ls : List AV) (h : AH) (st : List AV) : Option (Nat × Nat) → Option NX
  | some (cal, n) => match bc_pops n [] st with
    | some (args, rest) => bc_inv pc 3 ls h cal args rest
    | none => none
  | none => none
def bc_invV (pc len : Nat) (ls : List AV) (h : AH) (st : List AV) (n : Nat) (f : Nat → Option (Nat × Nat)) : Option NX := match bc_pops (n + 1) [] st with
  | some (.inr (.inr (.inl a)) :: args, rest) => match f (hK h a) with
    | some (cal, _) => bc_inv pc len ls h cal (vR a :: args) rest
    | none => none
  | _ => none
def bc_slots : List AV → List AV
  | [] => []
  | v :: r => if bc_isC2 v then v :: vX :: bc_slots r else v :: bc_slots r
def bc_entry (args : List AV) (n : Nat) : List AV := bc_slots args ++ List.replicate (n - (bc_slots args).length) vX
def bc_tab : List (MethodName × ByteArray × Nat × Nat × Nat) := [(⟨"BeadChainsLaw", "look", "(LBeadChains;II[J)I"⟩, cX0_look, 5, 1, 1), (⟨"BeadChainsLaw", "law", "([I)Z"⟩, cL_law, 7, 2, 1), (⟨"BeadChains", "<init>", "()V"⟩, cX1_init, 1, 0, 2), (⟨"BeadChains", "lay", "()V"⟩, cX1_lay, 4, 0, 2), (⟨"BeadChains", "at", "(III)I"⟩, cX1_at, 3, 1, 2), (⟨"BeadChains", "sumOf", "(III)J"⟩, cX1_sumOf, 9, 5, 2), (⟨"BeadChains", "goesOn", "(III)Z"⟩, cX1_goesOn, 4, 2, 2), (⟨"BeadChains", "isOf", "(II)Z"⟩, cX1_isOf, 2, 2, 2), (⟨"BeadChains", "isDusty", "(I)Z"⟩, cX1_isDusty, 2, 2, 2), (⟨"BeadChains", "feed", "(IIIII)I"⟩, cX1_feed, 6, 1, 2), (⟨"BeadChains", "four", "(I)V"⟩, cX1_four, 3, 0, 2), (⟨"BeadChains", "text", "(I)I"⟩, cX1_text, 3, 1, 2), (⟨"BeadChains", "isIn", "(III)Z"⟩, cX1_isIn, 3, 2, 2), (⟨"BeadChains", "fault", "(I)I"⟩, cX1_fault, 2, 1, 2), (⟨"BeadChains", "named", "(II)I"⟩, cX1_named, 3, 1, 2), (⟨"BeadChains", "sticks", "(II)I"⟩, cX1_sticks, 3, 1, 2), (⟨"BeadChains", "isLetter", "(I)Z"⟩, cX1_isLetter, 2, 2, 2), (⟨"BeadChains", "many", "(I)J"⟩, cX1_many, 4, 5, 2), (⟨"BeadChains", "kth", "(IJI)I"⟩, cX1_kth, 14, 1, 2), (⟨"BeadChains", "whole", "(I)Z"⟩, cX1_whole, 2, 2, 2), (⟨"BeadChains", "crumb", "(II)I"⟩, cX1_crumb, 3, 1, 2), (⟨"BeadChains", "strike", "(I)Z"⟩, cX1_strike, 2, 2, 2), (⟨"BeadChains", "known", "(I)Z"⟩, cX1_known, 2, 2, 2), (⟨"BeadChains", "found", "()I"⟩, cX1_found, 1, 1, 2), (⟨"BeadChains", "find", "()V"⟩, cX1_find, 3, 0, 2), (⟨"BeadChains", "grow", "()V"⟩, cX1_grow, 2, 0, 2), (⟨"BeadChains", "keep1", "()V"⟩, cX1_keep1, 1, 0, 2), (⟨"BeadChains", "knownBy", "()I"⟩, cX1_knownBy, 1, 1, 2), (⟨"BeadChains", "isKnown", "(I)Z"⟩, cX1_isKnown, 2, 2, 2), (⟨"BeadChains", "scoreOf", "(LBeadChains$Row;)J"⟩, cX1_scoreOf, 6, 5, 2), (⟨"BeadChains", "string", "(II)I"⟩, cX1_string, 4, 1, 2), (⟨"BeadChains", "isFound", "(I)Z"⟩, cX1_isFound, 2, 2, 2), (⟨"BeadChains", "looks", "()I"⟩, cX1_looks, 1, 1, 2), (⟨"BeadChains", "judge", "(IJI)I"⟩, cX1_judge, 6, 1, 2), (⟨"BeadChains", "isString", "(IJ)Z"⟩, cX1_isString, 6, 2, 2), (⟨"BeadChains", "firstStray", "()I"⟩, cX1_firstStray, 2, 1, 2), (⟨"BeadChains", "whence", "(III)I"⟩, cX1_whence, 9, 1, 2), (⟨"BeadChains", "told", "(IIIII)I"⟩, cX1_told, 6, 1, 2), (⟨"BeadChains", "score", "(I)J"⟩, cX1_score, 2, 5, 2), (⟨"BeadChains", "rank", "(I)I"⟩, cX1_rank, 3, 1, 2), (⟨"BeadChains", "ties", "()I"⟩, cX1_ties, 3, 1, 2), (⟨"BeadChains", "has", "(II)I"⟩, cX1_has, 5, 1, 2), (⟨"BeadChains", "tree", "(I)I"⟩, cX1_tree, 6, 1, 2), (⟨"BeadChains", "leavesOne", "(JI)Z"⟩, cX1_leavesOne, 5, 2, 2), (⟨"BeadChains", "parts1", "(JII)Z"⟩, cX1_parts1, 11, 2, 2), (⟨"BeadChains", "likeOf", "(JIII)J"⟩, cX1_likeOf, 9, 5, 2), (⟨"BeadChains", "tells", "(III)I"⟩, cX1_tells, 5, 1, 2), (⟨"BeadChains", "plan", "(II)I"⟩, cX1_plan, 8, 1, 2), (⟨"BeadChains", "alike", "(I)I"⟩, cX1_alike, 5, 1, 2), (⟨"BeadChains", "placeOf", "(LBeadChains$Row;LBeadChains$Row;)I"⟩, cX1_placeOf, 4, 1, 2), (⟨"BeadChains", "parts", "(II)I"⟩, cX1_parts, 3, 1, 2), (⟨"BeadChains", "shifts", "(II)I"⟩, cX1_shifts, 6, 1, 2), (⟨"BeadChains", "isShift", "(I)Z"⟩, cX1_isShift, 1, 2, 2), (⟨"BeadChains", "shift", "(I)I"⟩, cX1_shift, 6, 1, 2), (⟨"BeadChains", "world", "(IIII)I"⟩, cX1_world, 10, 1, 2), (⟨"BeadChains", "draw", "(I)I"⟩, cX1_draw, 2, 1, 2), (⟨"BeadChains", "keep", "()I"⟩, cX1_keep, 1, 1, 2), (⟨"BeadChains", "back", "()I"⟩, cX1_back, 1, 1, 2), (⟨"BeadChains", "count", "(I)I"⟩, cX1_count, 4, 1, 2), (⟨"BeadChains", "look", "(II)I"⟩, cX1_look, 3, 1, 2), (⟨"BeadChains$Box", "<init>", "()V"⟩, cX2_init, 1, 0, 3), (⟨"BeadChains$Box", "many", "()I"⟩, cX2_many, 1, 1, 3), (⟨"BeadChains$Box", "weight", "(I)I"⟩, cX2_weight, 2, 1, 3), (⟨"BeadChains$Box", "sticks", "(II)Z"⟩, cX2_sticks, 3, 2, 3), (⟨"BeadChains$Box", "beadOf", "(I)I"⟩, cX2_beadOf, 2, 1, 3), (⟨"BeadChains$Box", "dustOf", "(I)I"⟩, cX2_dustOf, 2, 1, 3), (⟨"BeadChains$Box", "bead", "(I)I"⟩, cX2_bead, 3, 1, 3), (⟨"BeadChains$Box", "dust", "(I)I"⟩, cX2_dust, 3, 1, 3), (⟨"BeadChains$Row", "<init>", "(LBeadChains;)V"⟩, cX3_init, 2, 0, 4), (⟨"BeadChains$Row", "clear", "()V"⟩, cX3_clear, 1, 0, 4), (⟨"BeadChains$Row", "weight", "()I"⟩, cX3_weight, 1, 1, 4), (⟨"BeadChains$Row", "last", "()I"⟩, cX3_last, 1, 1, 4), (⟨"BeadChains$Row", "add", "(I)V"⟩, cX3_add, 2, 0, 4), (⟨"BeadChains$Row", "isClosed", "()Z"⟩, cX3_isClosed, 1, 2, 4), (⟨"BeadChains$Row", "stray", "()I"⟩, cX3_stray, 3, 1, 4), (⟨"BeadChains$Row", "explains", "(I)Z"⟩, cX3_explains, 4, 2, 4), (⟨"BeadChains$Row", "sideOf", "(II)I"⟩, cX3_sideOf, 6, 1, 4), (⟨"BeadChains$Row", "side", "(II)I"⟩, cX3_side, 3, 1, 4), (⟨"BeadChains$Row", "beginOf", "(I)I"⟩, cX3_beginOf, 3, 1, 4), (⟨"BeadChains$Row", "manyOf", "(II)I"⟩, cX3_manyOf, 4, 1, 4), (⟨"BeadChains$Row", "middle", "(II)I"⟩, cX3_middle, 4, 1, 4), (⟨"BeadChains$Row", "copy", "(LBeadChains$Row;)V"⟩, cX3_copy, 3, 0, 4), (⟨"BeadChains$Row", "drop", "()V"⟩, cX3_drop, 1, 0, 4), (⟨"BeadChains$Row", "came", "()I"⟩, cX3_came, 4, 1, 4), (⟨"BeadChains$Row", "isThere", "(II)Z"⟩, cX3_isThere, 4, 2, 4), (⟨"BeadChains$Scene", "<init>", "()V"⟩, cX4_init, 1, 0, 5), (⟨"BeadChains$Scene", "inBound", "(J)J"⟩, cX4_inBound, 3, 5, 5), (⟨"BeadChainsModel", "<init>", "()V"⟩, cX5_init, 1, 0, 6), (⟨"BeadChainsModel", "thrown", "()I"⟩, cX5_thrown, 1, 1, 6), (⟨"BeadChainsModel", "feed", "(IIIII)I"⟩, cX5_feed, 8, 1, 6), (⟨"BeadChainsModel", "text", "(I)I"⟩, cX5_text, 3, 1, 6), (⟨"BeadChainsModel", "reads", "(II)V"⟩, cX5_reads, 3, 0, 6), (⟨"BeadChainsModel", "token", "()V"⟩, cX5_token, 2, 0, 6), (⟨"BeadChainsModel", "here", "()I"⟩, cX5_here, 1, 1, 6), (⟨"BeadChainsModel", "isSmall", "(I)Z"⟩, cX5_isSmall, 1, 2, 6), (⟨"BeadChainsModel", "word", "()I"⟩, cX5_word, 4, 1, 6), (⟨"BeadChainsModel", "name", "()V"⟩, cX5_name, 2, 0, 6), (⟨"BeadChainsModel", "isDigit", "(I)Z"⟩, cX5_isDigit, 1, 2, 6), (⟨"BeadChainsModel", "sign", "(I)V"⟩, cX5_sign, 2, 0, 6), (⟨"BeadChainsModel", "line", "()V"⟩, cX5_line, 2, 0, 6), (⟨"BeadChainsModel", "wrong", "(I)V"⟩, cX5_wrong, 2, 0, 6), (⟨"BeadChainsModel", "fresher", "(I)I"⟩, cX5_fresher, 2, 1, 6), (⟨"BeadChainsModel", "isFull", "()Z"⟩, cX5_isFull, 1, 2, 6), (⟨"BeadChainsModel", "fresh", "([IIIZ)I"⟩, cX5_fresh, 6, 1, 6), (⟨"BeadChainsModel", "found", "([IIII)I"⟩, cX5_found, 5, 1, 6), (⟨"BeadChainsModel", "numeral", "(II)I"⟩, cX5_numeral, 4, 1, 6), (⟨"BeadChainsModel", "dustLine", "()V"⟩, cX5_dustLine, 4, 0, 6), (⟨"BeadChainsModel", "isWord", "(I)Z"⟩, cX5_isWord, 2, 2, 6), (⟨"BeadChainsModel", "goOn", "()V"⟩, cX5_goOn, 1, 0, 6), (⟨"BeadChainsModel", "bead", "()I"⟩, cX5_bead, 2, 1, 6), (⟨"BeadChainsModel", "apartLine", "()V"⟩, cX5_apartLine, 3, 0, 6), (⟨"BeadChainsModel", "expression", "()V"⟩, cX5_expression, 1, 0, 6), (⟨"BeadChainsModel", "conjunction", "()V"⟩, cX5_conjunction, 1, 0, 6), (⟨"BeadChainsModel", "negation", "()V"⟩, cX5_negation, 2, 0, 6), (⟨"BeadChainsModel", "knot", "()V"⟩, cX5_knot, 1, 0, 6), (⟨"BeadChainsModel", "puts", "(II)V"⟩, cX5_puts, 3, 0, 6), (⟨"BeadChainsModel", "sum", "()V"⟩, cX5_sum, 2, 0, 6), (⟨"BeadChainsModel", "product", "()V"⟩, cX5_product, 2, 0, 6), (⟨"BeadChainsModel", "primary", "()V"⟩, cX5_primary, 2, 0, 6), (⟨"BeadChainsModel", "isSign", "(I)Z"⟩, cX5_isSign, 2, 2, 6), (⟨"BeadChainsModel", "half", "([I)V"⟩, cX5_half, 3, 0, 6), (⟨"BeadChainsModel", "layLetters", "()V"⟩, cX5_layLetters, 2, 0, 6), (⟨"BeadChainsModel", "addLetter", "(III)V"⟩, cX5_addLetter, 4, 0, 6), (⟨"BeadChainsModel", "fault", "(I)I"⟩, cX5_fault, 2, 1, 6), (⟨"BeadChainsModel", "named", "(II)I"⟩, cX5_named, 3, 1, 6), (⟨"BeadChainsModel", "look", "(II)I"⟩, cX5_look, 3, 1, 6), (⟨"BeadChainsModel", "isLetter", "(I)Z"⟩, cX5_isLetter, 2, 2, 6), (⟨"BeadChainsModel", "sticks", "(II)I"⟩, cX5_sticks, 3, 1, 6), (⟨"BeadChainsModel", "mayFollow", "(II)Z"⟩, cX5_mayFollow, 3, 2, 6), (⟨"BeadChainsModel", "many", "(I)J"⟩, cX5_many, 4, 5, 6), (⟨"BeadChainsModel", "isWeight", "(I)Z"⟩, cX5_isWeight, 1, 2, 6), (⟨"BeadChainsModel", "layTable", "(I)V"⟩, cX5_layTable, 8, 0, 6), (⟨"BeadChainsModel", "atTable", "(III)I"⟩, cX5_atTable, 3, 1, 6), (⟨"BeadChainsModel", "behind", "(IIII)J"⟩, cX5_behind, 5, 5, 6), (⟨"BeadChainsModel", "dustOf", "(I)I"⟩, cX5_dustOf, 2, 1, 6), (⟨"BeadChainsModel", "more", "(JJ)J"⟩, cX5_more, 4, 5, 6), (⟨"BeadChainsModel", "kth", "(IJI)I"⟩, cX5_kth, 14, 1, 6), (⟨"BeadChainsModel", "whole", "(I)Z"⟩, cX5_whole, 2, 2, 6), (⟨"BeadChainsModel", "crumb", "(II)I"⟩, cX5_crumb, 3, 1, 6), (⟨"BeadChainsModel", "strike", "(I)Z"⟩, cX5_strike, 2, 2, 6), (⟨"BeadChainsModel", "known", "(I)Z"⟩, cX5_known, 2, 2, 6), (⟨"BeadChainsModel", "found", "()I"⟩, cX5_found_2, 1, 1, 6), (⟨"BeadChainsModel", "search", "()Z"⟩, cX5_search, 1, 2, 6), (⟨"BeadChainsModel", "goes", "(II)V"⟩, cX5_goes, 4, 0, 6), (⟨"BeadChainsModel", "isClosed", "()Z"⟩, cX5_isClosed, 1, 2, 6), (⟨"BeadChainsModel", "strays", "()I"⟩, cX5_strays, 3, 1, 6), (⟨"BeadChainsModel", "isKnown", "(I)Z"⟩, cX5_isKnown, 2, 2, 6), (⟨"BeadChainsModel", "knownMany", "()I"⟩, cX5_knownMany, 1, 1, 6), (⟨"BeadChainsModel", "finds", "(I)Z"⟩, cX5_finds, 6, 2, 6), (⟨"BeadChainsModel", "isOf", "(II)Z"⟩, cX5_isOf, 3, 2, 6), (⟨"BeadChainsModel", "fromLeft", "(I)I"⟩, cX5_fromLeft, 2, 1, 6), (⟨"BeadChainsModel", "weighs", "(II)I"⟩, cX5_weighs, 5, 1, 6), (⟨"BeadChainsModel", "isNear", "(II)Z"⟩, cX5_isNear, 3, 2, 6), (⟨"BeadChainsModel", "lays", "(III)V"⟩, cX5_lays, 4, 0, 6), (⟨"BeadChainsModel", "fromRight", "(I)I"⟩, cX5_fromRight, 2, 1, 6), (⟨"BeadChainsModel", "looks", "()I"⟩, cX5_looks, 1, 1, 6), (⟨"BeadChainsModel", "string", "(II)I"⟩, cX5_string, 3, 1, 6), (⟨"BeadChainsModel", "isFound", "(I)Z"⟩, cX5_isFound, 2, 2, 6), (⟨"BeadChainsModel", "judge", "(IJI)I"⟩, cX5_judge, 8, 1, 6), (⟨"BeadChainsModel", "dusted", "()I"⟩, cX5_dusted, 3, 1, 6), (⟨"BeadChainsModel", "whence", "(III)I"⟩, cX5_whence, 4, 1, 6), (⟨"BeadChainsModel", "takes", "(I)V"⟩, cX5_takes, 3, 0, 6), (⟨"BeadChainsModel", "score", "(I)J"⟩, cX5_score, 2, 5, 6), (⟨"BeadChainsModel", "scoreOf", "(I)J"⟩, cX5_scoreOf, 5, 5, 6), (⟨"BeadChainsModel", "came", "()I"⟩, cX5_came, 6, 1, 6), (⟨"BeadChainsModel", "works", "(I)Z"⟩, cX5_works, 8, 2, 6), (⟨"BeadChainsModel", "is", "(Z)J"⟩, cX5_is, 1, 5, 6), (⟨"BeadChainsModel", "rank", "(I)I"⟩, cX5_rank, 5, 1, 6), (⟨"BeadChainsModel", "scoreAll", "()V"⟩, cX5_scoreAll, 2, 0, 6), (⟨"BeadChainsModel", "ties", "()I"⟩, cX5_ties, 5, 1, 6), (⟨"BeadChainsModel", "has", "(II)I"⟩, cX5_has, 3, 1, 6), (⟨"BeadChainsModel", "tree", "(I)I"⟩, cX5_tree, 5, 1, 6), (⟨"BeadChainsModel", "weighAll", "()V"⟩, cX5_weighAll, 4, 0, 6), (⟨"BeadChainsModel", "tells", "(JIZ)Z"⟩, cX5_tells, 12, 2, 6), (⟨"BeadChainsModel", "bitsOf", "(J)I"⟩, cX5_bitsOf, 4, 1, 6), (⟨"BeadChainsModel", "group", "(JII)J"⟩, cX5_group, 8, 5, 6), (⟨"BeadChainsModel", "plan", "(II)I"⟩, cX5_plan, 10, 1, 6), (⟨"BeadChainsModel", "alike", "(I)I"⟩, cX5_alike, 4, 1, 6), (⟨"BeadChainsModel", "partsAt", "(II)I"⟩, cX5_partsAt, 5, 1, 6), (⟨"BeadChainsModel", "parts", "(II)I"⟩, cX5_parts, 3, 1, 6), (⟨"BeadChainsModel", "shifts", "(II)I"⟩, cX5_shifts, 3, 1, 6), (⟨"BeadChainsModel", "shiftsOf", "(II)I"⟩, cX5_shiftsOf, 6, 1, 6), (⟨"BeadChainsModel", "shift", "(I)I"⟩, cX5_shift, 6, 1, 6), (⟨"BeadChainsModel", "world", "(IIII)I"⟩, cX5_world, 9, 1, 6), (⟨"BeadChainsModel", "draw", "()I"⟩, cX5_draw, 1, 1, 6), (⟨"BeadChainsModel", "keep", "()I"⟩, cX5_keep, 2, 1, 6), (⟨"BeadChainsModel", "back", "()I"⟩, cX5_back, 2, 1, 6), (⟨"BeadChainsModel", "count", "(I)I"⟩, cX5_count, 4, 1, 6), (⟨"BeadChains$Reader", "<init>", "(LBeadChains;I)V"⟩, cX6_init, 3, 0, 7), (⟨"BeadChains$Reader", "text", "()LBeadChains$Box;"⟩, cX6_text, 1, 6, 7), (⟨"BeadChains$Reader", "take", "()V"⟩, cX6_take, 1, 0, 7), (⟨"BeadChains$Reader", "see", "(I)I"⟩, cX6_see, 2, 1, 7), (⟨"BeadChains$Reader", "isSmall", "(I)Z"⟩, cX6_isSmall, 2, 2, 7), (⟨"BeadChains$Reader", "takeWord", "()V"⟩, cX6_takeWord, 2, 0, 7), (⟨"BeadChains$Reader", "key", "(I)I"⟩, cX6_key, 7, 1, 7), (⟨"BeadChains$Reader", "isDigit", "(I)Z"⟩, cX6_isDigit, 2, 2, 7), (⟨"BeadChains$Reader", "takeNumber", "()V"⟩, cX6_takeNumber, 1, 0, 7), (⟨"BeadChains$Reader", "takeSign", "()V"⟩, cX6_takeSign, 4, 0, 7), (⟨"BeadChains$Reader", "wrong", "()LBeadChains$Fault;"⟩, cX6_wrong, 1, 6, 7), (⟨"BeadChains$Reader", "line", "()V"⟩, cX6_line, 3, 0, 7), (⟨"BeadChains$Reader", "much", "(Z)V"⟩, cX6_much, 2, 0, 7), (⟨"BeadChains$Reader", "name", "()I"⟩, cX6_name, 1, 1, 7), (⟨"BeadChains$Reader", "newName", "(I)I"⟩, cX6_newName, 3, 1, 7), (⟨"BeadChains$Reader", "told", "(Z)V"⟩, cX6_told, 2, 0, 7), (⟨"BeadChains$Reader", "number", "(II)I"⟩, cX6_number, 4, 1, 7), (⟨"BeadChains$Reader", "dust", "()V"⟩, cX6_dust, 5, 0, 7), (⟨"BeadChains$Reader", "isKey", "(I)Z"⟩, cX6_isKey, 2, 2, 7), (⟨"BeadChains$Reader", "apart", "()V"⟩, cX6_apart, 3, 0, 7), (⟨"BeadChains$Reader", "there", "(I)I"⟩, cX6_there, 2, 1, 7), (⟨"BeadChains$Reader", "or", "()LBeadChains$Node;"⟩, cX6_or, 2, 6, 7), (⟨"BeadChains$Reader", "and", "()LBeadChains$Node;"⟩, cX6_and, 2, 6, 7), (⟨"BeadChains$Reader", "not", "()LBeadChains$Node;"⟩, cX6_not, 4, 6, 7), (⟨"BeadChains$Reader", "knot", "()V"⟩, cX6_knot, 1, 0, 7), (⟨"BeadChains$Reader", "compared", "()LBeadChains$Node;"⟩, cX6_compared, 3, 6, 7), (⟨"BeadChains$Reader", "sum", "()LBeadChains$Node;"⟩, cX6_sum, 3, 6, 7), (⟨"BeadChains$Reader", "product", "()LBeadChains$Node;"⟩, cX6_product, 3, 6, 7), (⟨"BeadChains$Reader", "one", "()LBeadChains$Node;"⟩, cX6_one, 2, 6, 7), (⟨"BeadChains$Reader", "isSign", "(I)Z"⟩, cX6_isSign, 2, 2, 7), (⟨"BeadChains$Fault", "<init>", "(II)V"⟩, cX7_init, 3, 0, 8), (⟨"BeadChains$Bead", "<init>", "(II)V"⟩, cX8_init, 3, 0, 9), (⟨"BeadChains$Letter", "<init>", "(III)V"⟩, cX9_init, 4, 0, 10), (⟨"BeadChains$Dust", "<init>", "(II)V"⟩, cX10_init, 3, 0, 11), (⟨"BeadChains$Name", "<init>", "(I)V"⟩, cX11_init, 2, 0, 12), (⟨"BeadChains$Name", "value", "(LBeadChains$Scene;)J"⟩, cX11_value, 2, 5, 12), (⟨"BeadChains$Constant", "<init>", "(J)V"⟩, cX12_init, 3, 0, 13), (⟨"BeadChains$Constant", "value", "(LBeadChains$Scene;)J"⟩, cX12_value, 2, 5, 13), (⟨"BeadChains$Two", "<init>", "(LBeadChains$Node;LBeadChains$Node;)V"⟩, cX13_init, 3, 0, 14), (⟨"BeadChains$Two", "value", "(LBeadChains$Scene;)J"⟩, cX13_value, 4, 5, 14), (⟨"BeadChains$Worked", "<init>", "(ILBeadChains$Node;LBeadChains$Node;)V"⟩, cX14_init, 4, 0, 15), (⟨"BeadChains$Worked", "of", "(LBeadChains$Scene;JJ)J"⟩, cX14_of, 6, 5, 15), (⟨"BeadChains$Compared", "<init>", "(ILBeadChains$Node;LBeadChains$Node;)V"⟩, cX15_init, 4, 0, 16), (⟨"BeadChains$Compared", "of", "(LBeadChains$Scene;JJ)J"⟩, cX15_of, 7, 5, 16), (⟨"BeadChains$Not", "<init>", "(LBeadChains$Node;)V"⟩, cX16_init, 2, 0, 17), (⟨"BeadChains$Not", "value", "(LBeadChains$Scene;)J"⟩, cX16_value, 2, 5, 17), (⟨"BeadChains$Choice", "<init>", "(ZLBeadChains$Node;LBeadChains$Node;)V"⟩, cX17_init, 4, 0, 18), (⟨"BeadChains$Choice", "of", "(LBeadChains$Scene;JJ)J"⟩, cX17_of, 6, 5, 18), (⟨"java/util/AbstractCollection", "<init>", "()V"⟩, cJ0_init, 1, 0, 19), (⟨"java/util/AbstractList", "<init>", "()V"⟩, cJ1_init, 1, 0, 20), (⟨"java/util/ArrayList", "<init>", "()V"⟩, cJ2_init, 1, 0, 21), (⟨"java/util/ArrayList", "size", "()I"⟩, cJ2_size, 1, 1, 21), (⟨"java/util/ArrayList", "get", "(I)Ljava/lang/Object;"⟩, cJ2_get, 2, 6, 21), (⟨"java/util/ArrayList", "elementData", "(I)Ljava/lang/Object;"⟩, cJ2_elementData, 2, 6, 21), (⟨"java/util/ArrayList", "add", "(Ljava/lang/Object;)Z"⟩, cJ2_add, 2, 2, 21), (⟨"java/util/ArrayList", "add", "(Ljava/lang/Object;[Ljava/lang/Object;I)V"⟩, cJ2_add_2, 4, 0, 21), (⟨"java/util/ArrayList", "grow", "()[Ljava/lang/Object;"⟩, cJ2_grow, 1, 6, 21), (⟨"java/util/ArrayList", "grow", "(I)[Ljava/lang/Object;"⟩, cJ2_grow_2, 4, 6, 21), (⟨"java/util/Objects", "checkIndex", "(II)I"⟩, cJ3_checkIndex, 2, 1, 22), (⟨"jdk/internal/util/Preconditions", "checkIndex", "(IILjava/util/function/BiFunction;)I"⟩, cJ4_checkIndex, 3, 1, 23), (⟨"jdk/internal/util/Preconditions", "checkFromToIndex", "(IIILjava/util/function/BiFunction;)I"⟩, cJ4_checkFromToIndex, 4, 1, 23), (⟨"java/lang/String", "length", "()I"⟩, cJ5_length, 1, 1, 24), (⟨"java/lang/String", "coder", "()B"⟩, cJ5_coder, 1, 4, 24), (⟨"java/lang/String", "indexOf", "(II)I"⟩, cJ5_indexOf, 3, 1, 24), (⟨"java/lang/String", "isLatin1", "()Z"⟩, cJ5_isLatin1, 1, 2, 24), (⟨"java/lang/String", "checkBoundsBeginEnd", "(III)V"⟩, cJ5_checkBoundsBeginEnd, 3, 0, 24), (⟨"java/lang/String", "charAt", "(I)C"⟩, cJ5_charAt, 2, 3, 24), (⟨"java/lang/String", "checkIndex", "(II)V"⟩, cJ5_checkIndex, 2, 0, 24), (⟨"java/lang/String", "indexOf", "(I)I"⟩, cJ5_indexOf_2, 2, 1, 24), (⟨"java/lang/StringLatin1", "indexOf", "([BIII)I"⟩, cJ6_indexOf, 4, 1, 25), (⟨"java/lang/StringLatin1", "canEncode", "(I)Z"⟩, cJ6_canEncode, 1, 2, 25), (⟨"java/lang/StringLatin1", "indexOfChar", "([BIII)I"⟩, cJ6_indexOfChar, 6, 1, 25), (⟨"java/lang/StringLatin1", "charAt", "([BI)C"⟩, cJ6_charAt, 2, 3, 25), (⟨"java/lang/Math", "max", "(II)I"⟩, cJ7_max, 2, 1, 26), (⟨"java/lang/Math", "min", "(II)I"⟩, cJ7_min, 2, 1, 26), (⟨"java/lang/Math", "abs", "(I)I"⟩, cJ7_abs, 1, 1, 26), (⟨"java/lang/Math", "abs", "(J)J"⟩, cJ7_abs_2, 2, 5, 26), (⟨"java/lang/StringUTF16", "indexOf", "([BIII)I"⟩, cJ8_indexOf, 4, 1, 27), (⟨"java/lang/StringUTF16", "indexOfChar", "([BIII)I"⟩, cJ8_indexOfChar, 4, 1, 27), (⟨"java/lang/StringUTF16", "checkBoundsBeginEnd", "(II[B)V"⟩, cJ8_checkBoundsBeginEnd, 3, 0, 27), (⟨"java/lang/StringUTF16", "length", "([B)I"⟩, cJ8_length, 1, 1, 27), (⟨"java/lang/StringUTF16", "indexOfCharUnsafe", "([BIII)I"⟩, cJ8_indexOfCharUnsafe, 5, 1, 27), (⟨"java/lang/StringUTF16", "getChar", "([BI)C"⟩, cJ8_getChar, 2, 3, 27), (⟨"java/lang/StringUTF16", "indexOfSupplementary", "([BIII)I"⟩, cJ8_indexOfSupplementary, 7, 1, 27), (⟨"java/lang/StringUTF16", "charAt", "([BI)C"⟩, cJ8_charAt, 2, 3, 27), (⟨"java/lang/StringUTF16", "checkIndex", "(I[B)V"⟩, cJ8_checkIndex, 2, 0, 27), (⟨"java/lang/Character", "isValidCodePoint", "(I)Z"⟩, cJ9_isValidCodePoint, 2, 2, 28), (⟨"java/lang/Character", "highSurrogate", "(I)C"⟩, cJ9_highSurrogate, 1, 3, 28), (⟨"java/lang/Character", "lowSurrogate", "(I)C"⟩, cJ9_lowSurrogate, 1, 3, 28), (⟨"java/lang/Throwable", "<init>", "()V"⟩, cJ10_init, 1, 0, 29), (⟨"java/lang/Throwable", "<init>", "(Ljava/lang/String;Ljava/lang/Throwable;ZZ)V"⟩, cJ10_init_2, 5, 0, 29), (⟨"java/lang/Throwable", "<init>", "(Ljava/lang/String;)V"⟩, cJ10_init_3, 2, 0, 29), (⟨"java/lang/Exception", "<init>", "(Ljava/lang/String;Ljava/lang/Throwable;ZZ)V"⟩, cJ11_init, 5, 0, 30), (⟨"java/lang/Exception", "<init>", "(Ljava/lang/String;)V"⟩, cJ11_init_2, 2, 0, 30), (⟨"java/lang/Exception", "<init>", "()V"⟩, cJ11_init_3, 1, 0, 30), (⟨"java/lang/Record", "<init>", "()V"⟩, cJ12_init, 1, 0, 31), (⟨"jdk/internal/util/ArraysSupport", "newLength", "(III)I"⟩, cJ13_newLength, 4, 1, 32), (⟨"jdk/internal/util/ArraysSupport", "hugeLength", "(II)I"⟩, cJ13_hugeLength, 3, 1, 32), (⟨"java/util/Arrays", "copyOf", "([Ljava/lang/Object;I)[Ljava/lang/Object;"⟩, cJ14_copyOf, 2, 6, 33), (⟨"java/util/Arrays", "copyOf", "([Ljava/lang/Object;ILjava/lang/Class;)[Ljava/lang/Object;"⟩, cJ14_copyOf_2, 4, 6, 33), (⟨"java/lang/RuntimeException", "<init>", "(Ljava/lang/String;)V"⟩, cJ15_init, 2, 0, 34), (⟨"java/lang/RuntimeException", "<init>", "()V"⟩, cJ15_init_2, 1, 0, 34), (⟨"java/lang/IndexOutOfBoundsException", "<init>", "(Ljava/lang/String;)V"⟩, cJ16_init, 2, 0, 35), (⟨"java/lang/IndexOutOfBoundsException", "<init>", "()V"⟩, cJ16_init_2, 1, 0, 35), (⟨"java/lang/ArrayIndexOutOfBoundsException", "<init>", "(Ljava/lang/String;)V"⟩, cJ17_init, 2, 0, 36), (⟨"java/util/NoSuchElementException", "<init>", "()V"⟩, cJ18_init, 1, 0, 37), (⟨"java/lang/Long", "numberOfTrailingZeros", "(J)I"⟩, cJ19_numberOfTrailingZeros, 3, 1, 38), (⟨"java/lang/Long", "bitCount", "(J)I"⟩, cJ19_bitCount, 2, 1, 38), (⟨"java/lang/Integer", "numberOfTrailingZeros", "(I)I"⟩, cJ20_numberOfTrailingZeros, 2, 1, 39), (⟨"java/lang/Object", "<init>", "()V"⟩, cJ21_init, 1, 0, 40)]
def bc_ft : List ((Nat × Nat × Nat) × (Int × Nat × Nat)) := [((2, 13, 2), (0, 4, 3)), ((2, 17, 2), (3, 0, 0)), ((2, 24, 2), (4, 4, 0)), ((2, 29, 2), (5, 4, 3)), ((2, 33, 2), (9, 0, 0)), ((2, 36, 2), (10, 4, 3)), ((2, 40, 2), (11, 4, 3)), ((2, 48, 2), (16, 4, 3)), ((2, 52, 2), (17, 4, 3)), ((2, 55, 2), (18, 4, 3)), ((2, 59, 2), (19, 4, 3)), ((2, 62, 2), (20, 4, 3)), ((2, 68, 2), (21, 4, 3)), ((2, 72, 2), (28, 4, 3)), ((2, 75, 2), (29, 4, 3)), ((2, 81, 2), (1, 0, 0)), ((2, 92, 2), (2, 0, 0)), ((2, 106, 8), (6, 0, 9)), ((2, 109, 8), (7, 0, 9)), ((2, 112, 2), (6, 0, 0)), ((2, 115, 2), (7, 0, 0)), ((2, 118, 2), (8, 0, 0)), ((2, 121, 2), (23, 1, 0)), ((2, 125, 2), (12, 1, 0)), ((2, 128, 3), (11, 0, 0)), ((2, 168, 3), (9, 0, 0)), ((2, 196, 4), (2, 0, 0)), ((2, 199, 2), (15, 0, 0)), ((2, 208, 4), (3, 0, 0)), ((2, 221, 2), (14, 0, 0)), ((2, 231, 3), (8, 0, 0)), ((2, 241, 3), (17, 4, 0)), ((2, 245, 5), (0, 4, 6)), ((2, 248, 5), (1, 1, 0)), ((2, 260, 2), (13, 1, 0)), ((2, 279, 4), (0, 4, 5)), ((2, 319, 4), (1, 4, 5)), ((2, 357, 2), (22, 3, 0)), ((2, 372, 3), (7, 0, 0)), ((2, 375, 2), (24, 0, 0)), ((2, 378, 2), (25, 0, 0)), ((2, 381, 2), (26, 0, 0)), ((2, 384, 2), (27, 0, 0)), ((2, 393, 3), (0, 4, 4)), ((2, 401, 3), (1, 4, 4)), ((2, 404, 3), (4, 0, 0)), ((2, 407, 3), (10, 0, 0)), ((2, 410, 3), (16, 1, 0)), ((3, 12, 3), (0, 4, 4)), ((3, 18, 3), (1, 4, 4)), ((3, 21, 3), (2, 4, 4)), ((3, 24, 3), (3, 4, 4)), ((3, 28, 3), (9, 0, 0)), ((3, 42, 9), (0, 0, 10)), ((3, 47, 11), (0, 0, 12)), ((3, 48, 9), (1, 0, 10)), ((3, 53, 10), (0, 0, 11)), ((3, 54, 10), (1, 0, 11)), ((3, 57, 10), (2, 0, 11)), ((4, 3, 4), (4, 4, 5)), ((4, 15, 4), (0, 4, 5)), ((4, 19, 4), (1, 4, 5)), ((4, 22, 4), (2, 0, 0)), ((4, 26, 4), (3, 0, 0)), ((4, 29, 2), (4, 4, 0)), ((4, 43, 3), (16, 1, 0)), ((4, 51, 3), (5, 0, 0)), ((4, 57, 3), (6, 0, 0)), ((4, 69, 3), (7, 0, 0)), ((4, 78, 2), (10, 4, 3)), ((4, 81, 2), (11, 4, 3)), ((5, 9, 5), (0, 4, 6)), ((5, 15, 5), (1, 1, 0)), ((6, 11, 6), (1, 4, 7)), ((6, 15, 6), (3, 4, 7)), ((6, 18, 6), (4, 4, 7)), ((6, 21, 6), (5, 4, 7)), ((6, 24, 6), (6, 4, 7)), ((6, 27, 6), (7, 4, 7)), ((6, 30, 6), (8, 4, 7)), ((6, 33, 6), (9, 4, 7)), ((6, 36, 6), (10, 4, 7)), ((6, 39, 6), (11, 4, 7)), ((6, 42, 6), (12, 4, 7)), ((6, 45, 6), (23, 0, 0)), ((6, 49, 6), (27, 4, 7)), ((6, 52, 6), (28, 4, 7)), ((6, 55, 6), (29, 4, 7)), ((6, 59, 6), (30, 4, 7)), ((6, 63, 6), (33, 0, 0)), ((6, 66, 6), (34, 4, 7)), ((6, 69, 6), (35, 4, 7)), ((6, 72, 6), (36, 4, 7)), ((6, 76, 6), (41, 4, 7)), ((6, 79, 6), (42, 4, 7)), ((6, 82, 6), (43, 4, 7)), ((6, 85, 6), (44, 4, 7)), ((6, 88, 6), (54, 4, 7)), ((6, 91, 6), (55, 4, 7)), ((6, 94, 6), (56, 4, 7)), ((6, 97, 6), (57, 4, 7)), ((6, 100, 6), (59, 4, 7)), ((6, 103, 6), (60, 4, 7)), ((6, 106, 6), (0, 0, 0)), ((6, 109, 6), (2, 0, 0)), ((6, 112, 6), (16, 0, 0)), ((6, 115, 6), (15, 0, 0)), ((6, 122, 6), (17, 0, 0)), ((6, 125, 6), (18, 0, 0)), ((6, 135, 6), (19, 0, 0)), ((6, 159, 6), (20, 0, 0)), ((6, 162, 6), (21, 0, 0)), ((6, 179, 6), (13, 0, 0)), ((6, 210, 6), (14, 0, 0)), ((6, 222, 6), (25, 0, 0)), ((6, 246, 6), (24, 0, 0)), ((6, 249, 6), (26, 0, 0)), ((6, 259, 6), (22, 0, 0)), ((6, 269, 6), (31, 0, 0)), ((6, 272, 6), (32, 0, 0)), ((6, 275, 6), (37, 1, 0)), ((6, 318, 6), (45, 0, 0)), ((6, 329, 6), (46, 0, 0)), ((6, 350, 6), (47, 0, 0)), ((6, 353, 6), (48, 0, 0)), ((6, 356, 6), (49, 0, 0)), ((6, 371, 6), (50, 0, 0)), ((6, 374, 6), (53, 1, 0)), ((6, 377, 6), (52, 1, 0)), ((6, 380, 6), (51, 0, 0)), ((6, 402, 6), (58, 0, 0)), ((6, 445, 6), (61, 0, 0)), ((6, 460, 6), (62, 0, 0)), ((6, 468, 6), (38, 0, 0)), ((6, 471, 6), (39, 0, 0)), ((6, 474, 6), (40, 0, 0)), ((7, 3, 7), (7, 4, 8)), ((7, 18, 7), (1, 4, 8)), ((7, 22, 7), (0, 0, 8)), ((7, 26, 2), (0, 4, 3)), ((7, 38, 7), (2, 0, 0)), ((7, 41, 7), (5, 0, 0)), ((7, 44, 7), (3, 0, 0)), ((7, 66, 7), (4, 0, 0)), ((7, 119, 3), (11, 0, 0)), ((7, 122, 3), (0, 4, 4)), ((7, 158, 3), (12, 1, 0)), ((7, 162, 3), (5, 0, 0)), ((7, 165, 3), (6, 0, 0)), ((7, 168, 3), (13, 1, 0)), ((7, 171, 3), (7, 0, 0)), ((7, 174, 3), (14, 1, 0)), ((7, 177, 3), (8, 0, 0)), ((7, 180, 3), (15, 1, 0)), ((7, 183, 3), (9, 0, 0)), ((7, 186, 3), (16, 1, 0)), ((7, 189, 3), (17, 4, 0)), ((7, 197, 3), (1, 4, 4)), ((7, 209, 3), (2, 4, 4)), ((7, 218, 9), (1, 0, 10)), ((7, 227, 3), (4, 0, 0)), ((7, 233, 3), (3, 4, 4)), ((7, 236, 3), (10, 0, 0)), ((7, 278, 7), (6, 0, 0)), ((8, 7, 8), (6, 0, 9)), ((8, 13, 8), (7, 0, 9)), ((9, 7, 9), (0, 0, 10)), ((9, 13, 9), (1, 0, 10)), ((10, 7, 10), (0, 0, 11)), ((10, 13, 10), (1, 0, 11)), ((10, 16, 10), (2, 0, 11)), ((11, 7, 11), (0, 0, 12)), ((11, 13, 11), (1, 0, 12)), ((12, 7, 12), (0, 0, 13)), ((12, 13, 5), (0, 4, 6)), ((13, 7, 13), (0, 3, 14)), ((14, 7, 15), (0, 4, 15)), ((14, 7, 16), (0, 4, 15)), ((14, 7, 18), (0, 4, 15)), ((14, 13, 15), (1, 4, 15)), ((14, 13, 16), (1, 4, 15)), ((14, 13, 18), (1, 4, 15)), ((15, 9, 15), (2, 0, 16)), ((15, 21, 5), (1, 1, 0)), ((16, 7, 16), (2, 0, 17)), ((17, 7, 17), (0, 4, 18)), ((18, 7, 18), (2, 1, 19)), ((20, 7, 21), (0, 0, 0)), ((21, 9, 21), (1, 4, 0)), ((21, 48, 21), (2, 0, 0)), ((21, 63, 21), (0, 0, 0)), ((24, 9, 24), (0, 4, 25)), ((24, 15, 24), (1, 2, 25)), ((29, 7, 29), (0, 4, 0)), ((29, 17, 29), (1, 4, 0)), ((29, 24, 29), (2, 4, 0)), ((29, 31, 29), (3, 4, 0)), ((29, 198, 29), (4, 4, 0))]
def bc_ct : List ((Nat × Nat × Nat) × (Nat × Nat)) := [((1, 7, 2), (59, 2)), ((1, 17, 0), (2, 1)), ((1, 20, 0), (87, 1)), ((1, 21, 2), (9, 5)), ((1, 25, 6), (89, 5)), ((1, 26, 2), (11, 1)), ((1, 30, 6), (90, 1)), ((1, 31, 2), (13, 1)), ((1, 34, 6), (123, 1)), ((1, 35, 2), (14, 2)), ((1, 38, 6), (124, 2)), ((1, 39, 0), (0, 4)), ((1, 44, 6), (125, 2)), ((1, 45, 6), (88, 0)), ((1, 49, 2), (15, 2)), ((1, 52, 6), (127, 2)), ((1, 53, 2), (17, 1)), ((1, 57, 6), (129, 1)), ((1, 60, 2), (18, 3)), ((1, 64, 6), (136, 3)), ((1, 65, 2), (19, 1)), ((1, 69, 6), (137, 1)), ((1, 70, 2), (20, 2)), ((1, 73, 6), (138, 2)), ((1, 74, 2), (21, 1)), ((1, 77, 6), (139, 1)), ((1, 78, 2), (22, 1)), ((1, 81, 6), (140, 1)), ((1, 82, 2), (23, 0)), ((1, 85, 6), (141, 0)), ((1, 86, 2), (30, 2)), ((1, 89, 6), (156, 2)), ((1, 90, 2), (32, 0)), ((1, 93, 6), (155, 0)), ((1, 94, 2), (33, 3)), ((1, 97, 6), (158, 3)), ((1, 98, 2), (36, 3)), ((1, 102, 6), (160, 3)), ((1, 103, 2), (38, 1)), ((1, 106, 6), (162, 1)), ((1, 107, 2), (39, 1)), ((1, 110, 6), (167, 1)), ((1, 111, 2), (40, 0)), ((1, 114, 6), (169, 0)), ((1, 115, 2), (41, 2)), ((1, 118, 6), (170, 2)), ((1, 119, 2), (42, 1)), ((1, 122, 6), (171, 1)), ((1, 123, 2), (47, 2)), ((1, 126, 6), (176, 2)), ((1, 127, 2), (48, 1)), ((1, 130, 6), (177, 1)), ((1, 131, 2), (50, 2)), ((1, 134, 6), (179, 2)), ((1, 135, 2), (51, 2)), ((1, 138, 6), (180, 2)), ((1, 139, 2), (53, 1)), ((1, 142, 6), (182, 1)), ((1, 143, 2), (54, 4)), ((1, 147, 6), (183, 4)), ((1, 148, 2), (56, 0)), ((1, 151, 6), (185, 0)), ((1, 152, 2), (57, 0)), ((1, 155, 6), (186, 0)), ((1, 156, 2), (58, 1)), ((1, 159, 6), (187, 1)), ((2, 5, 0), (297, 1)), ((2, 23, 0), (60, 1)), ((2, 45, 0), (68, 2)), ((2, 67, 0), (85, 1)), ((2, 78, 2), (3, 0)), ((2, 84, 2), (10, 1)), ((2, 88, 0), (12, 3)), ((2, 97, 0), (188, 3)), ((2, 100, 7), (189, 0)), ((2, 131, 3), (66, 1)), ((2, 135, 3), (67, 1)), ((2, 138, 3), (61, 0)), ((2, 142, 2), (16, 1)), ((2, 148, 0), (1002, 1)), ((2, 149, 3), (62, 1)), ((2, 152, 3), (64, 1)), ((2, 155, 3), (65, 1)), ((2, 160, 0), (1002, 1)), ((2, 161, 3), (63, 2)), ((2, 165, 2), (8, 1)), ((2, 171, 0), (4, 3)), ((2, 175, 2), (5, 3)), ((2, 179, 2), (6, 3)), ((2, 190, 0), (7, 2)), ((2, 193, 2), (27, 0)), ((2, 203, 4), (70, 0)), ((2, 205, 4), (71, 0)), ((2, 209, 4), (72, 1)), ((2, 212, 2), (26, 0)), ((2, 215, 2), (25, 0)), ((2, 218, 4), (82, 0)), ((2, 224, 4), (73, 0)), ((2, 228, 4), (74, 0)), ((2, 234, 4), (81, 1)), ((2, 238, 4), (83, 0)), ((2, 251, 12), (223, 1)), ((2, 251, 13), (225, 1)), ((2, 251, 15), (227, 1)), ((2, 251, 16), (227, 1)), ((2, 251, 17), (233, 1)), ((2, 251, 18), (227, 1)), ((2, 257, 4), (69, 0)), ((2, 263, 0), (262, 2)), ((2, 269, 2), (29, 1)), ((2, 273, 2), (24, 0)), ((2, 276, 2), (31, 1)), ((2, 284, 2), (28, 1)), ((2, 287, 4), (75, 1)), ((2, 290, 2), (34, 2)), ((2, 294, 2), (35, 0)), ((2, 298, 4), (76, 2)), ((2, 301, 4), (77, 2)), ((2, 304, 2), (37, 5)), ((2, 308, 4), (78, 1)), ((2, 311, 4), (79, 2)), ((2, 314, 4), (80, 2)), ((2, 322, 2), (46, 3)), ((2, 325, 2), (44, 3)), ((2, 329, 0), (294, 1)), ((2, 333, 2), (45, 4)), ((2, 337, 2), (43, 2)), ((2, 341, 0), (295, 1)), ((2, 344, 0), (261, 2)), ((2, 347, 2), (49, 2)), ((2, 351, 0), (52, 1)), ((2, 354, 2), (51, 2)), ((2, 369, 2), (55, 1)), ((2, 387, 0), (1000, 5)), ((2, 397, 21), (239, 0)), ((3, 3, 0), (297, 1)), ((3, 11, 0), (238, 1)), ((3, 32, 21), (239, 0)), ((3, 36, 21), (240, 1)), ((3, 60, 3), (64, 1)), ((3, 64, 0), (7, 2)), ((4, 9, 0), (297, 1)), ((4, 33, 3), (62, 1)), ((4, 39, 2), (8, 1)), ((4, 47, 3), (63, 2)), ((4, 54, 4), (70, 0)), ((4, 60, 4), (77, 2)), ((4, 64, 0), (263, 1)), ((4, 72, 4), (79, 2)), ((4, 75, 4), (80, 2)), ((4, 84, 4), (76, 2)), ((4, 87, 4), (78, 1)), ((4, 90, 2), (27, 0)), ((4, 93, 2), (28, 1)), ((4, 96, 4), (75, 1)), ((4, 99, 4), (84, 2)), ((4, 102, 4), (69, 0)), ((4, 105, 4), (72, 1)), ((5, 3, 0), (297, 1)), ((5, 19, 0), (264, 1)), ((6, 5, 0), (297, 1)), ((6, 118, 6), (93, 0)), ((6, 128, 0), (94, 1)), ((6, 132, 6), (95, 0)), ((6, 138, 6), (96, 0)), ((6, 141, 0), (97, 1)), ((6, 144, 6), (98, 1)), ((6, 150, 24), (249, 0)), ((6, 155, 24), (254, 1)), ((6, 165, 6), (92, 0)), ((6, 168, 6), (100, 1)), ((6, 171, 0), (104, 4)), ((6, 175, 6), (101, 1)), ((6, 182, 6), (102, 0)), ((6, 186, 6), (103, 4)), ((6, 190, 6), (105, 2)), ((6, 194, 6), (91, 2)), ((6, 198, 6), (106, 0)), ((6, 201, 6), (110, 0)), ((6, 204, 6), (111, 0)), ((6, 207, 6), (119, 1)), ((6, 213, 6), (107, 1)), ((6, 216, 6), (108, 0)), ((6, 219, 6), (109, 0)), ((6, 225, 6), (112, 0)), ((6, 228, 6), (114, 0)), ((6, 231, 6), (115, 2)), ((6, 234, 6), (113, 0)), ((6, 237, 6), (116, 0)), ((6, 240, 6), (117, 0)), ((6, 243, 6), (118, 0)), ((6, 252, 6), (122, 3)), ((6, 256, 6), (99, 0)), ((6, 262, 0), (120, 1)), ((6, 266, 6), (121, 0)), ((6, 279, 6), (126, 1)), ((6, 282, 6), (128, 2)), ((6, 290, 0), (132, 3)), ((6, 294, 6), (133, 4)), ((6, 298, 0), (135, 2)), ((6, 302, 6), (134, 1)), ((6, 305, 0), (130, 1)), ((6, 310, 6), (131, 1)), ((6, 315, 6), (147, 0)), ((6, 321, 0), (263, 1)), ((6, 326, 6), (151, 2)), ((6, 332, 6), (149, 2)), ((6, 335, 6), (150, 1)), ((6, 338, 6), (152, 2)), ((6, 341, 6), (153, 3)), ((6, 344, 6), (154, 1)), ((6, 347, 0), (262, 2)), ((6, 359, 6), (146, 1)), ((6, 362, 6), (148, 1)), ((6, 365, 6), (144, 0)), ((6, 368, 6), (145, 0)), ((6, 384, 6), (143, 2)), ((6, 387, 6), (142, 0)), ((6, 390, 6), (157, 1)), ((6, 395, 6), (159, 0)), ((6, 399, 6), (161, 1)), ((6, 405, 0), (166, 1)), ((6, 409, 0), (264, 1)), ((6, 416, 6), (164, 0)), ((6, 419, 6), (165, 1)), ((6, 426, 6), (163, 1)), ((6, 430, 6), (168, 0)), ((6, 433, 0), (174, 1)), ((6, 437, 6), (175, 3)), ((6, 441, 6), (173, 3)), ((6, 448, 6), (172, 0)), ((6, 451, 0), (261, 2)), ((6, 454, 6), (178, 2)), ((6, 457, 6), (181, 2)), ((6, 465, 6), (184, 0)), ((7, 9, 0), (297, 1)), ((7, 17, 0), (60, 1)), ((7, 30, 7), (191, 1)), ((7, 34, 0), (12, 3)), ((7, 47, 7), (192, 1)), ((7, 51, 7), (193, 0)), ((7, 54, 7), (195, 1)), ((7, 57, 7), (196, 0)), ((7, 60, 7), (197, 0)), ((7, 63, 7), (194, 1)), ((7, 71, 24), (249, 0)), ((7, 77, 24), (251, 2)), ((7, 81, 24), (254, 1)), ((7, 85, 0), (262, 2)), ((7, 92, 24), (256, 1)), ((7, 96, 0), (218, 3)), ((7, 99, 7), (198, 0)), ((7, 103, 7), (200, 1)), ((7, 107, 7), (190, 0)), ((7, 110, 7), (203, 1)), ((7, 113, 7), (199, 0)), ((7, 116, 7), (217, 1)), ((7, 126, 21), (239, 0)), ((7, 130, 7), (201, 0)), ((7, 133, 3), (66, 1)), ((7, 136, 3), (61, 0)), ((7, 139, 7), (202, 1)), ((7, 144, 7), (204, 2)), ((7, 147, 0), (219, 3)), ((7, 148, 21), (242, 1)), ((7, 152, 7), (205, 0)), ((7, 155, 7), (207, 0)), ((7, 193, 7), (209, 0)), ((7, 200, 3), (67, 1)), ((7, 202, 7), (206, 1)), ((7, 205, 0), (7, 2)), ((7, 214, 21), (240, 1)), ((7, 221, 0), (220, 4)), ((7, 226, 0), (221, 3)), ((7, 230, 7), (208, 1)), ((7, 239, 7), (210, 0)), ((7, 242, 7), (212, 0)), ((7, 247, 0), (234, 4)), ((7, 250, 7), (211, 0)), ((7, 253, 7), (213, 0)), ((7, 258, 0), (232, 2)), ((7, 261, 7), (214, 0)), ((7, 266, 0), (230, 4)), ((7, 269, 7), (215, 0)), ((7, 274, 0), (228, 4)), ((7, 275, 7), (216, 0)), ((7, 283, 0), (222, 2)), ((7, 288, 0), (224, 2)), ((8, 1, 0), (280, 5)), ((9, 1, 0), (283, 1)), ((10, 1, 0), (283, 1)), ((11, 1, 0), (283, 1)), ((12, 1, 0), (283, 1)), ((13, 1, 0), (283, 1)), ((14, 1, 0), (297, 1)), ((14, 16, 12), (223, 1)), ((14, 16, 13), (225, 1)), ((14, 16, 15), (227, 1)), ((14, 16, 16), (227, 1)), ((14, 16, 17), (233, 1)), ((14, 16, 18), (227, 1)), ((14, 22, 15), (229, 3)), ((14, 22, 16), (231, 3)), ((14, 22, 18), (235, 3)), ((15, 3, 0), (226, 3)), ((15, 15, 5), (86, 1)), ((15, 25, 0), (264, 1)), ((16, 1, 0), (226, 3)), ((17, 1, 0), (283, 1)), ((17, 13, 12), (223, 1)), ((17, 13, 13), (225, 1)), ((17, 13, 15), (227, 1)), ((17, 13, 16), (227, 1)), ((17, 13, 17), (233, 1)), ((17, 13, 18), (227, 1)), ((18, 1, 0), (226, 3)), ((19, 1, 0), (297, 1)), ((20, 1, 0), (236, 1)), ((21, 1, 0), (237, 1)), ((21, 66, 0), (1001, 2)), ((21, 69, 21), (245, 1)), ((21, 73, 0), (284, 3)), ((21, 79, 0), (261, 2)), ((21, 118, 0), (246, 2)), ((21, 123, 21), (241, 1)), ((21, 129, 21), (244, 0)), ((21, 131, 21), (243, 3)), ((22, 105, 0), (247, 3)), ((24, 335, 24), (250, 0)), ((24, 492, 24), (252, 0)), ((24, 495, 0), (260, 2)), ((24, 498, 0), (272, 2)), ((24, 505, 24), (249, 0)), ((24, 633, 24), (251, 2)), ((24, 637, 0), (257, 4)), ((24, 640, 0), (265, 4)), ((24, 1059, 0), (247, 3)), ((24, 1062, 0), (248, 4)), ((25, 9, 0), (255, 2)), ((25, 38, 0), (262, 2)), ((25, 88, 0), (258, 1)), ((25, 92, 0), (261, 2)), ((25, 95, 0), (259, 4)), ((27, 48, 0), (268, 1)), ((27, 67, 0), (273, 2)), ((27, 71, 0), (270, 2)), ((27, 96, 0), (267, 3)), ((27, 157, 0), (275, 1)), ((27, 161, 0), (276, 1)), ((27, 164, 0), (274, 1)), ((27, 183, 0), (262, 2)), ((27, 224, 0), (261, 2)), ((27, 228, 0), (266, 4)), ((27, 232, 0), (271, 4)), ((27, 241, 0), (253, 3)), ((27, 244, 0), (269, 4)), ((27, 414, 0), (255, 2)), ((29, 1, 0), (297, 1)), ((30, 1, 0), (277, 1)), ((30, 7, 0), (279, 2)), ((30, 16, 0), (278, 5)), ((31, 1, 0), (297, 1)), ((32, 194, 0), (261, 2)), ((32, 201, 0), (285, 2)), ((33, 150, 0), (1000, 5)), ((33, 300, 0), (287, 3)), ((33, 304, 0), (262, 2)), ((34, 1, 0), (282, 1)), ((34, 7, 0), (281, 2)), ((35, 1, 0), (289, 1)), ((35, 7, 0), (288, 2)), ((36, 7, 0), (290, 2)), ((37, 1, 0), (289, 1)), ((38, 311, 0), (296, 1))]
def bc_nt : List ((Nat × Nat) × Nat) := [((1, 7), 2), ((1, 21), 5), ((1, 25), 5), ((1, 26), 1), ((1, 30), 1), ((1, 31), 1), ((1, 34), 1), ((1, 35), 2), ((1, 38), 2), ((1, 44), 2), ((1, 45), 0), ((1, 49), 2), ((1, 52), 2), ((1, 53), 1), ((1, 57), 1), ((1, 60), 3), ((1, 64), 3), ((1, 65), 1), ((1, 69), 1), ((1, 70), 2), ((1, 73), 2), ((1, 74), 1), ((1, 77), 1), ((1, 78), 1), ((1, 81), 1), ((1, 82), 0), ((1, 85), 0), ((1, 86), 2), ((1, 89), 2), ((1, 90), 0), ((1, 93), 0), ((1, 94), 3), ((1, 97), 3), ((1, 98), 3), ((1, 102), 3), ((1, 103), 1), ((1, 106), 1), ((1, 107), 1), ((1, 110), 1), ((1, 111), 0), ((1, 114), 0), ((1, 115), 2), ((1, 118), 2), ((1, 119), 1), ((1, 122), 1), ((1, 123), 2), ((1, 126), 2), ((1, 127), 1), ((1, 130), 1), ((1, 131), 2), ((1, 134), 2), ((1, 135), 2), ((1, 138), 2), ((1, 139), 1), ((1, 142), 1), ((1, 143), 4), ((1, 147), 4), ((1, 148), 0), ((1, 151), 0), ((1, 152), 0), ((1, 155), 0), ((1, 156), 1), ((1, 159), 1), ((2, 78), 0), ((2, 84), 1), ((2, 100), 0), ((2, 131), 1), ((2, 135), 1), ((2, 138), 0), ((2, 142), 1), ((2, 149), 1), ((2, 152), 1), ((2, 155), 1), ((2, 161), 2), ((2, 165), 1), ((2, 175), 3), ((2, 179), 3), ((2, 193), 0), ((2, 203), 0), ((2, 205), 0), ((2, 209), 1), ((2, 212), 0), ((2, 215), 0), ((2, 218), 0), ((2, 224), 0), ((2, 228), 0), ((2, 234), 1), ((2, 238), 0), ((2, 251), 1), ((2, 257), 0), ((2, 269), 1), ((2, 273), 0), ((2, 276), 1), ((2, 284), 1), ((2, 287), 1), ((2, 290), 2), ((2, 294), 0), ((2, 298), 2), ((2, 301), 2), ((2, 304), 5), ((2, 308), 1), ((2, 311), 2), ((2, 314), 2), ((2, 322), 3), ((2, 325), 3), ((2, 333), 4), ((2, 337), 2), ((2, 347), 2), ((2, 354), 2), ((2, 369), 1), ((2, 397), 0), ((3, 32), 0), ((3, 36), 1), ((3, 60), 1), ((4, 33), 1), ((4, 39), 1), ((4, 47), 2), ((4, 54), 0), ((4, 60), 2), ((4, 72), 2), ((4, 75), 2), ((4, 84), 2), ((4, 87), 1), ((4, 90), 0), ((4, 93), 1), ((4, 96), 1), ((4, 99), 2), ((4, 102), 0), ((4, 105), 1), ((6, 118), 0), ((6, 132), 0), ((6, 138), 0), ((6, 144), 1), ((6, 150), 0), ((6, 155), 1), ((6, 165), 0), ((6, 168), 1), ((6, 175), 1), ((6, 182), 0), ((6, 186), 4), ((6, 190), 2), ((6, 194), 2), ((6, 198), 0), ((6, 201), 0), ((6, 204), 0), ((6, 207), 1), ((6, 213), 1), ((6, 216), 0), ((6, 219), 0), ((6, 225), 0), ((6, 228), 0), ((6, 231), 2), ((6, 234), 0), ((6, 237), 0), ((6, 240), 0), ((6, 243), 0), ((6, 252), 3), ((6, 256), 0), ((6, 266), 0), ((6, 279), 1), ((6, 282), 2), ((6, 294), 4), ((6, 302), 1), ((6, 310), 1), ((6, 315), 0), ((6, 326), 2), ((6, 332), 2), ((6, 335), 1), ((6, 338), 2), ((6, 341), 3), ((6, 344), 1), ((6, 359), 1), ((6, 362), 1), ((6, 365), 0), ((6, 368), 0), ((6, 384), 2), ((6, 387), 0), ((6, 390), 1), ((6, 395), 0), ((6, 399), 1), ((6, 416), 0), ((6, 419), 1), ((6, 426), 1), ((6, 430), 0), ((6, 437), 3), ((6, 441), 3), ((6, 448), 0), ((6, 454), 2), ((6, 457), 2), ((6, 465), 0), ((7, 30), 1), ((7, 47), 1), ((7, 51), 0), ((7, 54), 1), ((7, 57), 0), ((7, 60), 0), ((7, 63), 1), ((7, 71), 0), ((7, 77), 2), ((7, 81), 1), ((7, 92), 1), ((7, 99), 0), ((7, 103), 1), ((7, 107), 0), ((7, 110), 1), ((7, 113), 0), ((7, 116), 1), ((7, 126), 0), ((7, 130), 0), ((7, 133), 1), ((7, 136), 0), ((7, 139), 1), ((7, 144), 2), ((7, 148), 1), ((7, 152), 0), ((7, 155), 0), ((7, 193), 0), ((7, 200), 1), ((7, 202), 1), ((7, 214), 1), ((7, 230), 1), ((7, 239), 0), ((7, 242), 0), ((7, 250), 0), ((7, 253), 0), ((7, 261), 0), ((7, 269), 0), ((7, 275), 0), ((14, 16), 1), ((14, 22), 3), ((15, 15), 1), ((17, 13), 1), ((21, 69), 1), ((21, 123), 1), ((21, 129), 0), ((21, 131), 3), ((24, 335), 0), ((24, 492), 0), ((24, 505), 0), ((24, 633), 2), ((29, 27), 0), ((29, 202), 1), ((33, 86), 0)]
def bc_lt : List ((Nat × Nat) × AV) := [((1, 58), vJ 4294967295), ((2, 28), vI 39065), ((2, 182), vJ 9000000000000000001), ((2, 184), vJ (-1)), ((2, 186), vJ 9000000000000000000), ((2, 188), vJ (-2)), ((2, 202), vI 100000), ((2, 282), vJ 15), ((2, 297), vI (-2147483648)), ((2, 317), vJ (-9223372036854775808)), ((2, 361), vJ 1103515245), ((2, 363), vJ 12345), ((2, 365), vJ 2147483647), ((2, 367), vJ 65536), ((5, 25), vJ 1000000000000), ((6, 58), vI 39065), ((6, 148), vR 5), ((6, 286), vJ 9000000000000000000), ((6, 288), vJ 9000000000000000001), ((6, 308), vJ (-1)), ((6, 313), vJ (-2)), ((6, 383), vI 100000), ((6, 393), vJ 15), ((6, 398), vI (-2147483648)), ((6, 412), vJ 1000000000000), ((6, 414), vJ (-1000000000000)), ((6, 424), vJ (-9223372036854775808)), ((6, 463), vI 1103515245), ((6, 464), vI 2147483647), ((7, 69), vR 3), ((7, 90), vR 4), ((15, 30), vJ 1000000000000), ((27, 227), vI 65536), ((28, 76), vI 56320), ((28, 110), vI 55232), ((32, 200), vI 2147483639), ((38, 314), vJ 6148914691236517205), ((38, 316), vJ 3689348814741910323), ((38, 318), vJ 1085102592571150095), ((39, 264), vI 65536)]
def bc_wt : List ((Nat × Nat) × (Nat × Nat)) := [((1, 8), (2, 30)), ((1, 13), (35, 6)), ((1, 15), (37, 6)), ((1, 18), (6, 63)), ((2, 21), (3, 18)), ((2, 43), (4, 5)), ((2, 65), (5, 2)), ((2, 95), (7, 8)), ((2, 104), (8, 8)), ((2, 146), (35, 6)), ((2, 158), (37, 6)), ((3, 9), (21, 3)), ((3, 40), (9, 2)), ((3, 45), (11, 2)), ((3, 51), (10, 3)), ((7, 15), (3, 18)), ((7, 94), (8, 8)), ((7, 142), (9, 2)), ((7, 212), (10, 3)), ((7, 224), (11, 2)), ((7, 245), (18, 3)), ((7, 256), (17, 1)), ((7, 264), (16, 3)), ((7, 272), (15, 3)), ((7, 281), (12, 1)), ((7, 286), (13, 1))]
def bc_gt : List ((Nat × Nat) × AV) := [((21, 39), vR 2), ((24, 38), vI 1), ((24, 1053), vR 9), ((27, 44), vI 1), ((27, 59), vI 0), ((27, 63), vI 8), ((29, 13), vR 10), ((29, 20), vR 11)]
def bc_kt : List ((Nat × Nat) × Nat) := [((2, 43), 106), ((21, 7), 105), ((33, 2), 105)]
def bc_xt : List (Nat × Nat × Nat) := [(1, 8, 2), (1, 13, 35), (1, 15, 37), (1, 18, 6), (2, 21, 3), (2, 43, 4), (2, 65, 5), (2, 95, 7), (2, 104, 8), (2, 146, 35), (2, 158, 37), (3, 9, 21), (3, 40, 9), (3, 45, 11), (3, 51, 10), (7, 15, 3), (7, 94, 8), (7, 142, 9), (7, 212, 10), (7, 224, 11), (7, 245, 18), (7, 256, 17), (7, 264, 16), (7, 272, 15), (7, 281, 12), (7, 286, 13)]
def bc_ht : List (Nat × List (Nat × Nat × Nat × Nat)) := [(11, [(30, 46, 49, 8)]), (0, [(0, 10, 13, 35), (0, 10, 17, 37)])]
def bc_rowK : Nat := 4
def bc_mi (k : Nat) : MethodName × ByteArray × Nat × Nat × Nat := bc_tab.getD k (⟨"", "", ""⟩, ⟨#[]⟩, 0, 0, 0)
def bc_code (k : Nat) : ByteArray := (bc_mi k).2.1
def bc_maxL (k : Nat) : Nat := (bc_mi k).2.2.1
def bc_rt (k : Nat) : Nat := (bc_mi k).2.2.2.1
def bc_own (k : Nat) : Nat := (bc_mi k).2.2.2.2
/-- 0, or one more than the class whose constructor it is -/
def bc_ini (k : Nat) : Nat := if (bc_mi k).1.name = "<init>" then bc_own k + 1 else 0
/-- what is asked of a decoded instruction: its length, its number's range -/
def bc_ok (i : Instr) (len : Nat) : Bool := match i with
  | .iconst z => decide (-1 ≤ z ∧ z ≤ 5) && len == 1
  | .bipush z => decide (-128 ≤ z ∧ z ≤ 127) && len == 2
  | .sipush z => decide (-32768 ≤ z ∧ z ≤ 32767) && len == 3
  | .ldc _ => len == 2
  | .ldc_w _ => len == 3
  | .ldc2_w _ => len == 3
  | .iload _ => len == 2
  | .lload _ => len == 2
  | .aload _ => len == 2
  | .istore _ => len == 2
  | .lstore _ => len == 2
  | .astore _ => len == 2
  | .iinc _ _ => len == 3
  | .goto _ => len == 3
  | .ifCond _ _ => len == 3
  | .if_icmp _ _ => len == 3
  | .ifnull _ => len == 3
  | .ifnonnull _ => len == 3
  | .if_acmp _ _ => len == 3
  | .getfield _ => len == 3
  | .putfield _ => len == 3
  | .getstatic _ => len == 3
  | .new _ => len == 3
  | .anewarray _ => len == 3
  | .checkcast _ => len == 3
  | .invokestatic _ => len == 3
  | .invokespecial _ => len == 3
  | .invokevirtual _ => len == 3
  | .invokeinterface _ _ => len == 5
  | .newarray _ => len == 2
  | .tableswitch _ _ _ _ => true
  | .lookupswitch _ _ => true
  | _ => len == 1
def bc_at (k pc : Nat) : Option (Instr × Nat) := match decode (bc_code k) pc with
  | .ok (i, len) => if bc_ok i len = true then some (i, len) else none
  | .error _ => none
def bc_fl (ci idx c : Nat) : Option (Int × Nat × Nat) := bc_ft.lookup (ci, idx, c)
def bc_cl (ci idx c : Nat) : Option (Nat × Nat) := bc_ct.lookup (ci, idx, c)
def bc_an (ci idx : Nat) : Nat := (bc_nt.lookup (ci, idx)).getD 0
def bc_ld (ci idx : Nat) : Option AV := bc_lt.lookup (ci, idx)
def bc_nc (ci idx : Nat) : Option (Nat × Nat) := bc_wt.lookup (ci, idx)
def bc_gs (ci idx : Nat) : Option AV := bc_gt.lookup (ci, idx)
def bc_ak (ci idx : Nat) : Option Nat := bc_kt.lookup (ci, idx)
def bc_ck (ci idx c : Nat) : Bool := bc_xt.contains (ci, idx, c)
/-- a method's handlers: from, to, at, the kind that is caught -/
def bc_hs (k : Nat) : List (Nat × Nat × Nat × Nat) := (bc_ht.lookup k).getD []
def bc_hfind : List (Nat × Nat × Nat × Nat) → Nat → Nat → Option Nat
  | [], _, _ => none
  | (a, b, t, kd) :: r, pc, c => if a ≤ pc ∧ pc < b ∧ c = kd then some t else bc_hfind r pc c
def bc_hnd (k pc c : Nat) : Option Nat := bc_hfind (bc_hs k) pc c
def bc_nxt (k : Nat) (i : Instr) (pc len : Nat) (ls st : List AV) (h : AH) : Option NX := match i with
  | .iconst z => bc_go pc len ls h (some (vI z :: st))
  | .bipush z => bc_go pc len ls h (some (vI z :: st))
  | .sipush z => bc_go pc len ls h (some (vI z :: st))
  | .lconst z => bc_go pc len ls h (some (vJ (z.val : Nat) :: st))
  | .aconst_null => bc_go pc len ls h (some (vR 0 :: st))
  | .ldc idx => bc_go pc len ls h ((bc_ld (bc_own k) idx).map (· :: st))
  | .ldc_w idx => bc_go pc len ls h ((bc_ld (bc_own k) idx).map (· :: st))
  | .ldc2_w idx => bc_go pc len ls h ((bc_ld (bc_own k) idx).map (· :: st))
  | .iload n => bc_go pc len ls h (bc_ldI ls n st)
  | .iload_n n => bc_go pc len ls h (bc_ldI ls n.val st)
  | .lload n => bc_go pc len ls h (bc_ldJ ls n st)
  | .lload_n n => bc_go pc len ls h (bc_ldJ ls n.val st)
  | .aload n => bc_go pc len ls h (bc_ldR ls n st)
  | .aload_n n => bc_go pc len ls h (bc_ldR ls n.val st)
  | .istore n => bc_stI pc len ls h n st
  | .istore_n n => bc_stI pc len ls h n.val st
  | .lstore n => bc_stJ pc len ls h n st
  | .lstore_n n => bc_stJ pc len ls h n.val st
  | .astore n => bc_stR pc len ls h n st
  | .astore_n n => bc_stR pc len ls h n.val st
  | .iinc n z => if len = 3 then bc_inc pc len ls h n z st else none
  | .iadd => bc_go pc len ls h (bc_i2 (fun a b => w32 (a + b)) st)
  | .isub => bc_go pc len ls h (bc_i2 (fun a b => w32 (a - b)) st)
  | .imul => bc_go pc len ls h (bc_i2 (fun a b => w32 (a * b)) st)
  | .idiv => bc_go pc len ls h (bc_idiv st)
  | .irem => bc_go pc len ls h (bc_irem st)
  | .ineg => bc_go pc len ls h (bc_i1 (fun a => vI (w32 (-a))) st)
  | .iand => bc_go pc len ls h (bc_i2 iAnd st)
  | .ior => bc_go pc len ls h (bc_i2 iOr st)
  | .ixor => bc_go pc len ls h (bc_i2 iXor st)
  | .ishl => bc_go pc len ls h (bc_i2 iShl st)
  | .ishr => bc_go pc len ls h (bc_i2 iShr st)
  | .iushr => bc_go pc len ls h (bc_i2 iUshr st)
  | .ladd => bc_go pc len ls h (bc_j2 (fun a b => w64 (a + b)) st)
  | .lsub => bc_go pc len ls h (bc_j2 (fun a b => w64 (a - b)) st)
  | .lmul => bc_go pc len ls h (bc_j2 (fun a b => w64 (a * b)) st)
  | .ldiv => bc_go pc len ls h (bc_jdiv st)
  | .lrem => bc_go pc len ls h (bc_jrem st)
  | .lneg => bc_go pc len ls h (bc_j1 (fun a => vJ (w64 (-a))) st)
  | .land => bc_go pc len ls h (bc_j2 jAnd st)
  | .lor => bc_go pc len ls h (bc_j2 jOr st)
  | .lxor => bc_go pc len ls h (bc_j2 jXor st)
  | .lshl => bc_go pc len ls h (bc_ji jShl st)
  | .lshr => bc_go pc len ls h (bc_ji jShr st)
  | .lushr => bc_go pc len ls h (bc_ji jUshr st)
  | .lcmp => bc_go pc len ls h (bc_lcmp st)
  | .i2l => bc_go pc len ls h (bc_i1 (fun a => vJ a) st)
  | .l2i => bc_go pc len ls h (bc_j1 (fun a => vI (w32 a)) st)
  | .i2b => bc_go pc len ls h (bc_i1 (fun a => vI (i2bZ a)) st)
  | .i2c => bc_go pc len ls h (bc_i1 (fun a => vI (i2cZ a)) st)
  | .dup => bc_go pc len ls h (bc_dup st)
  | .dup_x1 => bc_go pc len ls h (bc_dupx1 st)
  | .dup2 => bc_go pc len ls h (bc_dup2 st)
  | .pop => bc_go pc len ls h (bc_pop st)
  | .goto off => bc_jmp pc off ls st h
  | .ifCond c off => match st with
    | .inl a :: r => bc_br (bc_cc c a 0) pc off ls r h
    | _ => none
  | .if_icmp c off => match st with
    | .inl b :: .inl a :: r => bc_br (bc_cc c a b) pc off ls r h
    | _ => none
  | .ifnull off => bc_nul pc off ls h true st
  | .ifnonnull off => bc_nul pc off ls h false st
  | .if_acmp c off => bc_acmp pc off ls h (decide (c = .eq)) st
  | .tableswitch dflt lo hi offs => bc_tsw pc dflt lo hi offs ls h st
  | .lookupswitch dflt ps => bc_lsw pc dflt ps ls h st
  | .getfield idx => bc_getf pc ls h (bc_fl (bc_own k) idx) st
  | .putfield idx => bc_putf pc ls h (bc_fl (bc_own k) idx) (bc_ini k) st
  | .getstatic idx => bc_go pc len ls h ((bc_gs (bc_own k) idx).map (· :: st))
  | .iaload => bc_ald pc ls h (fun c => c == 101 || c == 107) 0 st
  | .laload => bc_ald pc ls h (fun c => c == 102) 3 st
  | .baload => bc_ald pc ls h (fun c => c == 103 || c == 104 || c == 108) 0 st
  | .aaload => bc_ald pc ls h (fun c => c == 105 || c == 106) 4 st
  | .iastore => bc_iast pc ls h st
  | .lastore => bc_jast pc ls h st
  | .bastore => bc_bast pc ls h st
  | .aastore => bc_aast bc_rowK pc ls h st
  | .arraylength => bc_alen pc ls h st
  | .newarray ty => match ty with
    | .int => bc_newa pc len ls h 101 st
    | .long => bc_newa pc len ls h 102 st
    | .byte => bc_newa pc len ls h 103 st
    | .boolean => bc_newa pc len ls h 104 st
    | _ => none
  | .anewarray idx => match bc_ak (bc_own k) idx with
    | some c => bc_newa pc len ls h c st
    | none => none
  | .new idx => match bc_nc (bc_own k) idx with
    | some (c, n) => some (.inl (pc + len, ls, vR (hN h) :: st, nw h c 0 n))
    | none => none
  | .checkcast idx => match st with
    | .inr (.inr (.inl a)) :: r => if bc_ck (bc_own k) idx (hK h a) = true then some (.inl (pc + len, ls, vR a :: r, h)) else none
    | _ => none
  | .invokestatic idx => bc_invS pc ls h st (bc_cl (bc_own k) idx 0)
  | .invokespecial idx => bc_invS pc ls h st (bc_cl (bc_own k) idx 0)
  | .invokevirtual idx => bc_invV pc 3 ls h st (bc_an (bc_own k) idx) (bc_cl (bc_own k) idx)
  | .invokeinterface idx _ => bc_invV pc 5 ls h st (bc_an (bc_own k) idx) (bc_cl (bc_own k) idx)
  | .return_ => match st with
    | [] => if bc_rt k = 0 then some (.inr (.inl oV)) else none
    | _ => none
  | .ireturn => bc_ret (bc_rt k) st
  | .lreturn => bc_ret (bc_rt k) st
  | .areturn => bc_ret (bc_rt k) st
  | .athrow => match st with
    | .inr (.inr (.inl a)) :: _ => if hK h a ≠ 0 ∧ bc_hs k = [] then some (.inr (.inl (oT a))) else none
    | _ => none
  | _ => none
/-- the run: fuel, frames left, method, pc, locals, stack, heap -/
def bc_run : Nat → Nat → Nat → Nat → List AV → List AV → AH → Option (AO × AH)
  | 0, _, _, _, _, _, _ => none
  | n + 1, d, k, pc, ls, st, h => match bc_at k pc with
    | none => none
    | some (i, len) => match bc_nxt k i pc len ls st h with
      | none => none
      | some (.inl (pc', ls', st', h')) => bc_run n d k pc' ls' st' h'
      | some (.inr (.inl o)) => some (o, h)
      | some (.inr (.inr (cal, args, rest))) => match d with
        | 0 => none
        | d' + 1 => match bc_run n d' cal 0 (bc_entry args (bc_maxL cal)) [] h with
          | none => none
          | some (.inl none, h') => bc_run n (d' + 1) k (pc + len) ls rest h'
          | some (.inl (some v), h') => bc_run n (d' + 1) k (pc + len) ls (v :: rest) h'
          | some (.inr a, h') => match bc_hnd k pc (hK h' a) with
            | some pt => bc_run n (d' + 1) k pt ls [vR a] h'
            | none => some (.inr a, h')
/-- from here the machine comes to an end in Q -/
def Ev (d k pc : Nat) (ls st : List AV) (h : AH) (Q : AO → AH → Prop) : Prop := ∃ (n : Nat) (o : AO) (h' : AH), bc_run n d k pc ls st h = some (o, h') ∧ Q o h'
/-- what is done with a callee's outcome -/
def kont (d k p0 pc : Nat) (ls st : List AV) (Q : AO → AH → Prop) : AO → AH → Prop
  | .inl none, h => Ev d k pc ls st h Q
  | .inl (some v), h => Ev d k pc ls (v :: st) h Q
  | .inr a, h => match bc_hnd k p0 (hK h a) with
    | some pt => Ev d k pt ls [vR a] h Q
    | none => Q (.inr a) h
theorem kont_v {d k p0 pc : Nat} {ls st : List AV} {Q : AO → AH → Prop} {h : AH} : kont d k p0 pc ls st Q oV h = Ev d k pc ls st h Q := rfl
theorem kont_r {d k p0 pc : Nat} {ls st : List AV} {Q : AO → AH → Prop} {h : AH} {v : AV} : kont d k p0 pc ls st Q (oR v) h = Ev d k pc ls (v :: st) h Q := rfl
theorem kont_t {d k p0 pc : Nat} {ls st : List AV} {Q : AO → AH → Prop} {h : AH} {a : Nat} (hk : bc_hs k = []) : kont d k p0 pc ls st Q (oT a) h = Q (oT a) h := by
  simp only [kont, bc_hnd, hk, bc_hfind]
theorem kont_h {d k p0 pc pt : Nat} {ls st : List AV} {Q : AO → AH → Prop} {h : AH} {a : Nat} (hk : bc_hnd k p0 (hK h a) = some pt) : kont d k p0 pc ls st Q (oT a) h = Ev d k pt ls [vR a] h Q := by
  simp only [kont, hk]
theorem bc_mono : ∀ (n d k pc : Nat) (ls st : List AV) (h : AH) (r : AO × AH), bc_run n d k pc ls st h = some r → bc_run (n + 1) d k pc ls st h = some r := by
  intro n
  induction n with
  | zero => intro d k pc ls st h r e; simp [bc_run] at e
  | succ n ih =>
    intro d k pc ls st h r e
    rw [bc_run] at e ⊢
    cases hi : bc_at k pc with
    | none => rw [hi] at e; cases e
    | some q =>
      obtain ⟨i, len⟩ := q
      rw [hi] at e
      dsimp only at e ⊢
      cases hn : bc_nxt k i pc len ls st h with
      | none => rw [hn] at e; cases e
      | some x =>
        rw [hn] at e
        rcases x with ⟨pc', ls', st', h'⟩ | o | ⟨cal, args, rest⟩
        · exact ih _ _ _ _ _ _ _ e
        · exact e
        · cases d with
          | zero => cases e
          | succ d' =>
            dsimp only at e ⊢
            cases hc : bc_run n d' cal 0 (bc_entry args (bc_maxL cal)) [] h with
            | none => rw [hc] at e; cases e
            | some z =>
              rw [hc] at e
              rw [ih _ _ _ _ _ _ _ hc]
              obtain ⟨o, h'⟩ := z
              rcases o with (_ | v) | a
              · exact ih _ _ _ _ _ _ _ e
              · exact ih _ _ _ _ _ _ _ e
              · dsimp only at e ⊢
                cases hh : bc_hnd k pc (hK h' a) with
                | none => rw [hh] at e; exact e
                | some pt => rw [hh] at e; exact ih _ _ _ _ _ _ _ e
theorem bc_monoL {n m d k pc : Nat} {ls st : List AV} {h : AH} {r : AO × AH} (e : bc_run n d k pc ls st h = some r) (hm : n ≤ m) : bc_run m d k pc ls st h = some r := by
  obtain ⟨j, rfl⟩ := Nat.exists_eq_add_of_le hm
  induction j with
  | zero => exact e
  | succ j ih => exact bc_mono _ _ _ _ _ _ _ _ (ih (Nat.le_add_right _ _))
theorem bc_at_of {k pc len : Nat} {c : ByteArray} {i : Instr} (hc : bc_code k = c) (hd : decode c pc = .ok (i, len)) (hok : bc_ok i len = true) : bc_at k pc = some (i, len) := by
  unfold bc_at
  rw [hc, hd]
  dsimp only
  rw [if_pos hok]
section EV
variable {d k pc len pc' : Nat} {ls ls' st st' : List AV} {h h' : AH} {Q : AO → AH → Prop} {c : ByteArray} {i : Instr}
/-- one step -/
theorem ev_n (hc : bc_code k = c) (hd : decode c pc = .ok (i, len)) (hn : bc_nxt k i pc len ls st h = some (.inl (pc', ls', st', h'))) (hok : bc_ok i len = true := by rfl) : Ev d k pc ls st h Q ↔ Ev d k pc' ls' st' h' Q := by
  have hi := bc_at_of hc hd hok
  constructor
  · rintro ⟨n, o, h1, e, q⟩
    cases n with
    | zero => simp [bc_run] at e
    | succ n =>
      rw [bc_run, hi] at e
      dsimp only at e
      rw [hn] at e
      exact ⟨n, o, h1, e, q⟩
  · rintro ⟨n, o, h1, e, q⟩
    refine ⟨n + 1, o, h1, ?_, q⟩
    rw [bc_run, hi]
    dsimp only
    rw [hn]
    exact e
/-- the end -/
theorem ev_o {o : AO} (hc : bc_code k = c) (hd : decode c pc = .ok (i, len)) (hn : bc_nxt k i pc len ls st h = some (.inr (.inl o))) (hok : bc_ok i len = true := by rfl) : Ev d k pc ls st h Q ↔ Q o h := by
  have hi := bc_at_of hc hd hok
  constructor
  · rintro ⟨n, o1, h1, e, q⟩
    cases n with
    | zero => simp [bc_run] at e
    | succ n =>
      rw [bc_run, hi] at e
      dsimp only at e
      rw [hn] at e
      cases e
      exact q
  · intro q
    refine ⟨1, o, h, ?_, q⟩
    rw [bc_run, hi]
    dsimp only
    rw [hn]
/-- a call -/
theorem ev_c {cal : Nat} {args rest : List AV} (hc : bc_code k = c) (hd : decode c pc = .ok (i, len)) (hn : bc_nxt k i pc len ls st h = some (.inr (.inr (cal, args, rest)))) (hok : bc_ok i len = true := by rfl) : Ev (d + 1) k pc ls st h Q ↔ Ev d cal 0 (bc_entry args (bc_maxL cal)) [] h (kont (d + 1) k pc (pc + len) ls rest Q) := by
  have hi := bc_at_of hc hd hok
  constructor
  · rintro ⟨n, o1, h1, e, q⟩
    cases n with
    | zero => simp [bc_run] at e
    | succ n =>
      rw [bc_run, hi] at e
      dsimp only at e
      rw [hn] at e
      dsimp only at e
      cases hr : bc_run n d cal 0 (bc_entry args (bc_maxL cal)) [] h with
      | none => rw [hr] at e; cases e
      | some z =>
        rw [hr] at e
        obtain ⟨o, h2⟩ := z
        refine ⟨n, o, h2, hr, ?_⟩
        rcases o with (_ | v) | a
        · exact ⟨n, o1, h1, e, q⟩
        · exact ⟨n, o1, h1, e, q⟩
        · dsimp only at e
          unfold kont
          dsimp only
          cases hh : bc_hnd k pc (hK h2 a) with
          | none => rw [hh] at e; cases e; exact q
          | some pt => rw [hh] at e; exact ⟨n, o1, h1, e, q⟩
  · rintro ⟨n, o, h2, hr, q⟩
    rcases o with (_ | v) | a
    · obtain ⟨m, o1, h1, e, q⟩ := q
      refine ⟨max n m + 1, o1, h1, ?_, q⟩
      rw [bc_run, hi]
      dsimp only
      rw [hn]
      dsimp only
      rw [bc_monoL hr (Nat.le_max_left n m)]
      exact bc_monoL e (Nat.le_max_right n m)
    · obtain ⟨m, o1, h1, e, q⟩ := q
      refine ⟨max n m + 1, o1, h1, ?_, q⟩
      rw [bc_run, hi]
      dsimp only
      rw [hn]
      dsimp only
      rw [bc_monoL hr (Nat.le_max_left n m)]
      exact bc_monoL e (Nat.le_max_right n m)
    · unfold kont at q
      dsimp only at q
      cases hh : bc_hnd k pc (hK h2 a) with
      | none =>
        rw [hh] at q
        refine ⟨n + 1, .inr a, h2, ?_, q⟩
        rw [bc_run, hi]
        dsimp only
        rw [hn]
        dsimp only
        rw [hr]
        dsimp only
        rw [hh]
      | some pt =>
        rw [hh] at q
        obtain ⟨m, o1, h1, e, q⟩ := q
        refine ⟨max n m + 1, o1, h1, ?_, q⟩
        rw [bc_run, hi]
        dsimp only
        rw [hn]
        dsimp only
        rw [bc_monoL hr (Nat.le_max_left n m)]
        dsimp only
        rw [hh]
        exact bc_monoL e (Nat.le_max_right n m)
end EV
section EW
variable {d k pc len tgt ci idx cc cal n nl t a : Nat} {ls st args rest ent : List AV} {h h' : AH} {Q : AO → AH → Prop} {c : ByteArray} {j f' : Int} {f : Nat} {v : AV}
theorem ev_jmp {off : Int} (hc : bc_code k = c) (hd : decode c pc = .ok (.goto off, 3)) (ht : (pc : Int) + off = (tgt : Int)) : Ev d k pc ls st h Q ↔ Ev d k tgt ls st h Q := by
  refine ev_n hc hd ?_
  show bc_jmp pc off ls st h = _
  unfold bc_jmp
  rw [ht, if_pos (Int.natCast_nonneg _), Int.toNat_natCast]
theorem bc_jmp_to {off : Int} (ht : (pc : Int) + off = (tgt : Int)) : bc_jmp pc off ls st h = some (.inl (tgt, ls, st, h)) := by
  unfold bc_jmp
  rw [ht, if_pos (Int.natCast_nonneg _), Int.toNat_natCast]
theorem ev_br {b : Bool} {i : Instr} {off : Int} {st0 : List AV} {p : Prop} [Decidable p] (hc : bc_code k = c) (hd : decode c pc = .ok (i, len)) (hn : bc_nxt k i pc len ls st0 h = bc_br b pc off ls st h) (ht : (pc : Int) + off = (tgt : Int)) (hp : b = decide p) (hok : bc_ok i len = true := by rfl) : Ev d k pc ls st0 h Q ↔ (if p then Ev d k tgt ls st h Q else Ev d k (pc + 3) ls st h Q) := by
  by_cases q : p
  · rw [if_pos q]
    refine ev_n hc hd (hn.trans ?_) hok
    rw [hp, decide_eq_true q]
    exact bc_jmp_to ht
  · rw [if_neg q]
    refine ev_n hc hd (hn.trans ?_) hok
    rw [hp, decide_eq_false q]
    rfl
theorem ev_brN {b : Bool} {i : Instr} {off : Int} {st0 : List AV} {p : Prop} [Decidable p] (hc : bc_code k = c) (hd : decode c pc = .ok (i, len)) (hn : bc_nxt k i pc len ls st0 h = bc_br b pc off ls st h) (ht : (pc : Int) + off = (tgt : Int)) (hp : b = decide (¬ p)) (hok : bc_ok i len = true := by rfl) : Ev d k pc ls st0 h Q ↔ (if p then Ev d k (pc + 3) ls st h Q else Ev d k tgt ls st h Q) := by
  rw [ev_br hc hd hn ht hp hok]
  by_cases q : p
  · rw [if_pos q, if_neg (fun z => z q)]
  · rw [if_neg q, if_pos q]
theorem bc_le_not {a b : Int} : decide (b ≤ a) = decide (¬ a < b) := by
  by_cases q : a < b
  · rw [decide_eq_false (by omega), decide_eq_false (by omega)]
  · rw [decide_eq_true (by omega), decide_eq_true (by omega)]
/-- a long's comparison and the branch behind it -/
theorem jc_eq {a b : Int} : decide (jCmp a b = 0) = decide (a = b) := by
  unfold jCmp
  by_cases q : a < b
  · rw [if_pos q, decide_eq_false (by omega), decide_eq_false (by omega)]
  · rw [if_neg q]
    by_cases r : a = b
    · rw [if_pos r, decide_eq_true rfl, decide_eq_true r]
    · rw [if_neg r, decide_eq_false (by omega), decide_eq_false r]
theorem jc_lt {a b : Int} : decide (jCmp a b < 0) = decide (a < b) := by
  unfold jCmp
  by_cases q : a < b
  · rw [if_pos q, decide_eq_true (by omega), decide_eq_true q]
  · rw [if_neg q]
    by_cases r : a = b
    · rw [if_pos r, decide_eq_false (by omega), decide_eq_false (by omega)]
    · rw [if_neg r, decide_eq_false (by omega), decide_eq_false (by omega)]
theorem jc_gt {a b : Int} : decide (0 < jCmp a b) = decide (b < a) := by
  unfold jCmp
  by_cases q : a < b
  · rw [if_pos q, decide_eq_false (by omega), decide_eq_false (by omega)]
  · rw [if_neg q]
    by_cases r : a = b
    · rw [if_pos r, decide_eq_false (by omega), decide_eq_false (by omega)]
    · rw [if_neg r, decide_eq_true (by omega), decide_eq_true (by omega)]
theorem jc_ne {a b : Int} : decide (¬ jCmp a b = 0) = decide (¬ a = b) := by
  have := @jc_eq a b
  rw [decide_not, decide_not, this]
theorem jc_ge {a b : Int} : decide (0 ≤ jCmp a b) = decide (¬ a < b) := by
  rw [bc_le_not, decide_not, decide_not, jc_lt]
theorem jc_le {a b : Int} : decide (jCmp a b ≤ 0) = decide (¬ b < a) := by
  rw [bc_le_not, decide_not, decide_not, jc_gt]
theorem ev_gf (hc : bc_code k = c) (hd : decode c pc = .ok (.getfield idx, 3)) (ho : bc_own k = ci) (hf : bc_fl ci idx cc = some (j, t, f)) (hv : bc_rd h a j t = v) (hk : hK h a = cc) : Ev d k pc ls (vR a :: st) h Q ↔ Ev d k (pc + 3) ls (v :: st) h Q := by
  refine ev_n hc hd ?_
  show bc_getf pc ls h (bc_fl (bc_own k) idx) (vR a :: st) = _
  unfold bc_getf
  dsimp only
  rw [hk, ho, hf]
  dsimp only
  rw [hv]
theorem ev_pf (hc : bc_code k = c) (hd : decode c pc = .ok (.putfield idx, 3)) (ho : bc_own k = ci) (hf : bc_fl ci idx cc = some (j, t, f)) (hi : f = 0 ∨ f = bc_ini k) (hw : bc_wr h a j t v = some h') (hk : hK h a = cc) : Ev d k pc ls (v :: vR a :: st) h Q ↔ Ev d k (pc + 3) ls st h' Q := by
  refine ev_n hc hd ?_
  show bc_putf pc ls h (bc_fl (bc_own k) idx) (bc_ini k) (v :: vR a :: st) = _
  unfold bc_putf
  dsimp only
  rw [hk, ho, hf]
  dsimp only
  rw [if_pos hi, hw]
theorem bc_wr1 {z : Int} (hz : b01 z) : bc_wr h a j 1 (vI z) = some (sI h a j z) := by
  show (if z = 0 ∨ z = 1 then some (sI h a j z) else none) = _
  rw [if_pos hz]
theorem ev_ald {i : Instr} {ok : Nat → Bool} {x : Int} (hc : bc_code k = c) (hd : decode c pc = .ok (i, len)) (hn : bc_nxt k i pc len ls (vI x :: vR a :: st) h = bc_ald pc ls h ok t (vI x :: vR a :: st)) (hv : bc_rd h a x t = v) (hkc : ok cc = true) (hk : hK h a = cc) (h0 : 0 ≤ x) (h1 : x < hL h a) (hok : bc_ok i len = true := by rfl) : Ev d k pc ls (vI x :: vR a :: st) h Q ↔ Ev d k (pc + 1) ls (v :: st) h Q := by
  refine ev_n hc hd (hn.trans ?_) hok
  unfold bc_ald
  dsimp only
  rw [if_pos ⟨by rw [hk]; exact hkc, h0, h1⟩, hv]
theorem ev_iast {x z : Int} (hc : bc_code k = c) (hd : decode c pc = .ok (.iastore, 1)) (hk : hK h a = 101) (h0 : 0 ≤ x) (h1 : x < hL h a) : Ev d k pc ls (vI z :: vI x :: vR a :: st) h Q ↔ Ev d k (pc + 1) ls st (sI h a x z) Q := by
  refine ev_n hc hd ?_
  show bc_iast pc ls h (vI z :: vI x :: vR a :: st) = _
  unfold bc_iast
  dsimp only
  rw [if_pos ⟨hk, h0, h1⟩]
theorem ev_jast {x z : Int} (hc : bc_code k = c) (hd : decode c pc = .ok (.lastore, 1)) (hk : hK h a = 102) (h0 : 0 ≤ x) (h1 : x < hL h a) : Ev d k pc ls (vJ z :: vI x :: vR a :: st) h Q ↔ Ev d k (pc + 1) ls st (sI h a x z) Q := by
  refine ev_n hc hd ?_
  show bc_jast pc ls h (vJ z :: vI x :: vR a :: st) = _
  unfold bc_jast
  dsimp only
  rw [if_pos ⟨hk, h0, h1⟩]
theorem ev_bast {x z : Int} (hc : bc_code k = c) (hd : decode c pc = .ok (.bastore, 1)) (hk : hK h a = 103) (h0 : 0 ≤ x) (h1 : x < hL h a) : Ev d k pc ls (vI z :: vI x :: vR a :: st) h Q ↔ Ev d k (pc + 1) ls st (sI h a x (i2bZ z)) Q := by
  refine ev_n hc hd ?_
  show bc_bast pc ls h (vI z :: vI x :: vR a :: st) = _
  unfold bc_bast
  dsimp only
  rw [if_pos ⟨hk, h0, h1⟩]
theorem ev_zast {x z : Int} (hc : bc_code k = c) (hd : decode c pc = .ok (.bastore, 1)) (hk : hK h a = 104) (h0 : 0 ≤ x) (h1 : x < hL h a) (hz : b01 z) : Ev d k pc ls (vI z :: vI x :: vR a :: st) h Q ↔ Ev d k (pc + 1) ls st (sI h a x z) Q := by
  refine ev_n hc hd ?_
  show bc_bast pc ls h (vI z :: vI x :: vR a :: st) = _
  unfold bc_bast
  dsimp only
  rw [if_neg (fun q => by have := hk.symm.trans q.1; omega), if_pos ⟨hk, h0, h1, hz⟩]
theorem ev_aastO {x : Int} {z : Nat} (hc : bc_code k = c) (hd : decode c pc = .ok (.aastore, 1)) (hk : hK h a = 105) (h0 : 0 ≤ x) (h1 : x < hL h a) (hz : 1 ≤ hK h z) (hz2 : hK h z ≤ 40) : Ev d k pc ls (vR z :: vI x :: vR a :: st) h Q ↔ Ev d k (pc + 1) ls st (sR h a x z) Q := by
  refine ev_n hc hd ?_
  show bc_aast bc_rowK pc ls h (vR z :: vI x :: vR a :: st) = _
  unfold bc_aast
  dsimp only
  rw [if_pos ⟨Or.inl ⟨hk, hz, hz2⟩, h0, h1⟩]
theorem ev_aastR {x : Int} {z : Nat} (hc : bc_code k = c) (hd : decode c pc = .ok (.aastore, 1)) (hk : hK h a = 106) (h0 : 0 ≤ x) (h1 : x < hL h a) (hz : hK h z = bc_rowK) : Ev d k pc ls (vR z :: vI x :: vR a :: st) h Q ↔ Ev d k (pc + 1) ls st (sR h a x z) Q := by
  refine ev_n hc hd ?_
  show bc_aast bc_rowK pc ls h (vR z :: vI x :: vR a :: st) = _
  unfold bc_aast
  dsimp only
  rw [if_pos ⟨Or.inr ⟨hk, hz⟩, h0, h1⟩]
theorem ev_alen (hc : bc_code k = c) (hd : decode c pc = .ok (.arraylength, 1)) (hk : 101 ≤ hK h a) (hk2 : hK h a ≤ 109) : Ev d k pc ls (vR a :: st) h Q ↔ Ev d k (pc + 1) ls (vI (hL h a) :: st) h Q := by
  refine ev_n hc hd ?_
  show bc_alen pc ls h (vR a :: st) = _
  unfold bc_alen
  dsimp only
  rw [if_pos ⟨hk, hk2⟩]
theorem ev_newa {i : Instr} {x : Int} (hc : bc_code k = c) (hd : decode c pc = .ok (i, len)) (hn : bc_nxt k i pc len ls (vI x :: st) h = bc_newa pc len ls h cc (vI x :: st)) (h0 : 0 ≤ x) (h1 : x ≤ 100000) (hok : bc_ok i len = true := by rfl) : Ev d k pc ls (vI x :: st) h Q ↔ Ev d k (pc + len) ls (vR (hN h) :: st) (nw h cc x x.toNat) Q := by
  refine ev_n hc hd (hn.trans ?_) hok
  unfold bc_newa
  dsimp only
  rw [if_pos ⟨h0, h1⟩]
theorem bc_nxt_anew {x : Int} (hf : bc_ak (bc_own k) idx = some cc) : bc_nxt k (.anewarray idx) pc len ls (vI x :: st) h = bc_newa pc len ls h cc (vI x :: st) := by
  show (match bc_ak (bc_own k) idx with | some c => bc_newa pc len ls h c (vI x :: st) | none => none) = _
  rw [hf]
theorem ev_new (hc : bc_code k = c) (hd : decode c pc = .ok (.new idx, 3)) (ho : bc_own k = ci) (hf : bc_nc ci idx = some (cc, n)) : Ev d k pc ls st h Q ↔ Ev d k (pc + 3) ls (vR (hN h) :: st) (nw h cc 0 n) Q := by
  refine ev_n hc hd ?_
  show (match bc_nc (bc_own k) idx with | some (c, n) => some (Sum.inl (pc + 3, ls, vR (hN h) :: st, nw h c 0 n)) | none => none) = _
  rw [ho, hf]
theorem ev_cast (hc : bc_code k = c) (hd : decode c pc = .ok (.checkcast idx, 3)) (ho : bc_own k = ci) (hf : bc_ck ci idx cc = true) (hk : hK h a = cc) : Ev d k pc ls (vR a :: st) h Q ↔ Ev d k (pc + 3) ls (vR a :: st) h Q := by
  refine ev_n hc hd ?_
  show (if bc_ck (bc_own k) idx (hK h a) = true then some (Sum.inl (pc + 3, ls, vR a :: st, h)) else none) = _
  rw [ho, hk, if_pos hf]
theorem ev_cst {i : Instr} (hc : bc_code k = c) (hd : decode c pc = .ok (i, len)) (hn : bc_nxt k i pc len ls st h = bc_go pc len ls h ((bc_ld (bc_own k) idx).map (· :: st))) (ho : bc_own k = ci) (hf : bc_ld ci idx = some v) (hok : bc_ok i len = true := by rfl) : Ev d k pc ls st h Q ↔ Ev d k (pc + len) ls (v :: st) h Q := by
  refine ev_n hc hd (hn.trans ?_) hok
  rw [ho, hf]
  rfl
theorem ev_gs (hc : bc_code k = c) (hd : decode c pc = .ok (.getstatic idx, 3)) (ho : bc_own k = ci) (hf : bc_gs ci idx = some v) : Ev d k pc ls st h Q ↔ Ev d k (pc + 3) ls (v :: st) h Q := by
  refine ev_n hc hd ?_
  show bc_go pc 3 ls h ((bc_gs (bc_own k) idx).map (· :: st)) = _
  rw [ho, hf]
  rfl
theorem ev_cS {i : Instr} (hc : bc_code k = c) (hd : decode c pc = .ok (i, 3)) (hn : bc_nxt k i pc 3 ls st h = bc_invS pc ls h st (bc_cl (bc_own k) idx 0)) (ho : bc_own k = ci) (hf : bc_cl ci idx 0 = some (cal, n)) (hcal : cal < 1000) (hp : bc_pops n [] st = some (args, rest)) (hr : (rest.map bc_cat).sum ≤ 8) (hL : bc_maxL cal = nl) (hm : bc_entry args nl = ent) (hok : bc_ok i 3 = true := by rfl) : Ev (d + 1) k pc ls st h Q ↔ Ev d cal 0 ent [] h (kont (d + 1) k pc (pc + 3) ls rest Q) := by
  have e : bc_nxt k i pc 3 ls st h = some (.inr (.inr (cal, args, rest))) := by
    rw [hn, ho, hf]
    unfold bc_invS
    dsimp only
    rw [hp]
    dsimp only
    unfold bc_inv
    rw [if_neg (by omega), if_neg (by omega), if_neg (by omega), if_pos hr]
  rw [ev_c hc hd e hok, hL, hm]
theorem ev_cV {i : Instr} (hc : bc_code k = c) (hd : decode c pc = .ok (i, len)) (hn : bc_nxt k i pc len ls st h = bc_invV pc len ls h st (bc_an (bc_own k) idx) (bc_cl (bc_own k) idx)) (ho : bc_own k = ci) (ha : bc_an ci idx = n) (hf : bc_cl ci idx cc = some (cal, t)) (hcal : cal < 1000) (hp : bc_pops (n + 1) [] st = some (vR a :: args, rest)) (hr : (rest.map bc_cat).sum ≤ 8) (hL : bc_maxL cal = nl) (hm : bc_entry (vR a :: args) nl = ent) (hk : hK h a = cc) (hok : bc_ok i len = true := by rfl) : Ev (d + 1) k pc ls st h Q ↔ Ev d cal 0 ent [] h (kont (d + 1) k pc (pc + len) ls rest Q) := by
  have e : bc_nxt k i pc len ls st h = some (.inr (.inr (cal, vR a :: args, rest))) := by
    rw [hn, ho, ha]
    unfold bc_invV
    rw [hp]
    dsimp only
    rw [hk, hf]
    dsimp only
    unfold bc_inv
    rw [if_neg (by omega), if_neg (by omega), if_neg (by omega), if_pos hr]
  rw [ev_c hc hd e hok, hL, hm]
theorem ev_ret {i : Instr} {o : AO} (hc : bc_code k = c) (hd : decode c pc = .ok (i, len)) (hn : bc_nxt k i pc len ls st h = bc_ret (bc_rt k) st) (hr : bc_rt k = t) (hx : bc_ret t st = some (.inr (.inl o))) (hok : bc_ok i len = true := by rfl) : Ev d k pc ls st h Q ↔ Q o h := ev_o hc hd (by rw [hn, hr, hx]) hok
theorem ev_vret (hc : bc_code k = c) (hd : decode c pc = .ok (.return_, 1)) (hr : bc_rt k = 0) : Ev d k pc ls [] h Q ↔ Q oV h := ev_o hc hd (by
  show (if bc_rt k = 0 then some (Sum.inr (Sum.inl oV)) else none) = _
  rw [if_pos hr])
theorem bc_ret2 {z : Int} (hz : b01 z) : bc_ret 2 [vI z] = some (.inr (.inl (oR (vI z)))) := by
  show (if z = 0 ∨ z = 1 then some (Sum.inr (Sum.inl (oR (vI z)))) else none) = _
  rw [if_pos hz]
theorem bc_ret3 {z : Int} (h0 : 0 ≤ z) (h1 : z < 65536) : bc_ret 3 [vI z] = some (.inr (.inl (oR (vI z)))) := by
  show (if 0 ≤ z ∧ z < 65536 then some (Sum.inr (Sum.inl (oR (vI z)))) else none) = _
  rw [if_pos ⟨h0, h1⟩]
theorem bc_ret4 {z : Int} (h0 : -128 ≤ z) (h1 : z < 128) : bc_ret 4 [vI z] = some (.inr (.inl (oR (vI z)))) := by
  show (if -128 ≤ z ∧ z < 128 then some (Sum.inr (Sum.inl (oR (vI z)))) else none) = _
  rw [if_pos ⟨h0, h1⟩]
theorem ev_throw (hc : bc_code k = c) (hd : decode c pc = .ok (.athrow, 1)) (hh : bc_hs k = []) (hk : hK h a ≠ 0) : Ev d k pc ls (vR a :: st) h Q ↔ Q (oT a) h := ev_o hc hd (by
  show (if hK h a ≠ 0 ∧ bc_hs k = [] then some (Sum.inr (Sum.inl (oT a))) else none) = _
  rw [if_pos ⟨hk, hh⟩])
theorem ev_div {i : Instr} {x y : Int} {s1 : List AV} (hc : bc_code k = c) (hd : decode c pc = .ok (i, len)) (hn : bc_nxt k i pc len ls st h = bc_go pc len ls h (if y = 0 then none else some s1)) (hy : ¬ y = 0) (hok : bc_ok i len = true := by rfl) : Ev d k pc ls st h Q ↔ Ev d k (pc + len) ls s1 h Q := by
  refine ev_n hc hd (hn.trans ?_) hok
  rw [if_neg hy]
  rfl
theorem ev_nul {off : Int} (hc : bc_code k = c) (hd : decode c pc = .ok (.ifnull off, 3)) (ht : (pc : Int) + off = (tgt : Int)) (hk : a = 0 ∨ hK h a ≠ 0) : Ev d k pc ls (vR a :: st) h Q ↔ (if a = 0 then Ev d k tgt ls st h Q else Ev d k (pc + 3) ls st h Q) := by
  refine ev_br (b := decide (a = 0)) (off := off) hc hd ?_ ht rfl
  show bc_nul pc off ls h true (vR a :: st) = _
  unfold bc_nul
  dsimp only
  rw [if_pos hk]
  cases decide (a = 0) <;> rfl
theorem ev_nnl {off : Int} (hc : bc_code k = c) (hd : decode c pc = .ok (.ifnonnull off, 3)) (ht : (pc : Int) + off = (tgt : Int)) (hk : a = 0 ∨ hK h a ≠ 0) : Ev d k pc ls (vR a :: st) h Q ↔ (if a = 0 then Ev d k (pc + 3) ls st h Q else Ev d k tgt ls st h Q) := by
  refine ev_brN (b := decide (¬ a = 0)) (off := off) hc hd ?_ ht rfl
  show bc_nul pc off ls h false (vR a :: st) = _
  unfold bc_nul
  dsimp only
  rw [if_pos hk, decide_not]
  cases decide (a = 0) <;> rfl
theorem ev_acmpE {off : Int} {x y : Nat} (hc : bc_code k = c) (hd : decode c pc = .ok (.if_acmp .eq off, 3)) (ht : (pc : Int) + off = (tgt : Int)) (hx : hK h x = 105 ∨ hK h x = 109) (hy : hK h y = 105 ∨ hK h y = 109) : Ev d k pc ls (vR y :: vR x :: st) h Q ↔ (if x = y then Ev d k tgt ls st h Q else Ev d k (pc + 3) ls st h Q) := by
  refine ev_br (b := decide (x = y)) (off := off) hc hd ?_ ht rfl
  show bc_acmp pc off ls h (decide (ACond.eq = ACond.eq)) (vR y :: vR x :: st) = _
  unfold bc_acmp
  dsimp only
  rw [if_pos ⟨hx, hy⟩]
  cases decide (x = y) <;> rfl
theorem ev_kopy {s u : Nat} {sp tp m : Int} (hc : bc_code k = c) (hd : decode c pc = .ok (.invokestatic idx, 3)) (ho : bc_own k = ci) (hf : bc_cl ci idx 0 = some (1000, 5)) (hs : hK h s = 101) (hu : hK h u = 101) (hne : s ≠ u) (h0 : 0 ≤ sp) (h1 : 0 ≤ tp) (h2 : 0 ≤ m) (h3 : sp + m ≤ hL h s) (h4 : tp + m ≤ hL h u) : Ev d k pc ls (vI m :: vI tp :: vR u :: vI sp :: vR s :: st) h Q ↔ Ev d k (pc + 3) ls st (cpI h s sp u tp m) Q := by
  refine ev_n hc hd ?_
  show bc_invS pc ls h _ (bc_cl (bc_own k) idx 0) = _
  rw [ho, hf]
  show (match bc_kopy h [vR s, vI sp, vR u, vI tp, vI m] with | some h' => some (Sum.inl (pc + 3, ls, st, h')) | none => none) = _
  unfold bc_kopy
  dsimp only
  rw [if_pos ⟨hs, hu, hne, h0, h1, h2, h3, h4⟩]
theorem ev_kopyOf {s : Nat} {m : Int} (hc : bc_code k = c) (hd : decode c pc = .ok (.invokestatic idx, 3)) (ho : bc_own k = ci) (hf : bc_cl ci idx 0 = some (1001, 2)) (hs : hK h s = 105) (h0 : 0 ≤ m) (h1 : hL h s ≤ m) (h2 : m ≤ 1000) : Ev d k pc ls (vI m :: vR s :: st) h Q ↔ Ev d k (pc + 3) ls (vR (hN h) :: st) (cpR (nw h 105 m m.toNat) s 0 (hN h) 0 (hL h s)) Q := by
  refine ev_n hc hd ?_
  show bc_invS pc ls h _ (bc_cl (bc_own k) idx 0) = _
  rw [ho, hf]
  show (match bc_kopyOf h [vR s, vI m] with | some (v, h') => some (Sum.inl (pc + 3, ls, v :: st, h')) | none => none) = _
  unfold bc_kopyOf
  dsimp only
  rw [if_pos ⟨hs, h0, h1, h2⟩]
theorem ev_exi (hc : bc_code k = c) (hd : decode c pc = .ok (.invokespecial idx, 3)) (ho : bc_own k = ci) (hf : bc_cl ci idx 0 = some (1002, 1)) : Ev d k pc ls (vR a :: st) h Q ↔ Ev d k (pc + 3) ls st h Q := by
  refine ev_n hc hd ?_
  show bc_invS pc ls h _ (bc_cl (bc_own k) idx 0) = _
  rw [ho, hf]
  rfl
theorem ev_tswd {dflt lo hi : Int} {offs : Array Int} {x : Int} (hc : bc_code k = c) (hd : decode c pc = .ok (.tableswitch dflt lo hi offs, len)) (ht : (pc : Int) + dflt = (tgt : Int)) (hx : x < lo ∨ hi < x) : Ev d k pc ls (vI x :: st) h Q ↔ Ev d k tgt ls st h Q := by
  refine ev_n hc hd ?_
  show bc_tsw pc dflt lo hi offs ls h (vI x :: st) = _
  unfold bc_tsw
  dsimp only
  rw [if_pos hx]
  exact bc_jmp_to ht
theorem bc_lsw_none {ps : List (Int × Int)} {dflt x : Int} (hx : ∀ q ∈ ps, ¬ x = q.1) : Op.lookupswitch.offset ps dflt x = dflt := by
  induction ps with
  | nil => rfl
  | cons q r ih =>
    have h1 := hx q List.mem_cons_self
    have h2 := ih (fun z hz => hx z (List.mem_cons_of_mem _ hz))
    obtain ⟨a, o⟩ := q
    simp only [Op.lookupswitch.offset]
    rw [if_neg (fun e => h1 (by simpa using Eq.symm (by simpa using e)))]
    exact h2
theorem ev_lswd {dflt : Int} {ps : Array (Int × Int)} {x : Int} (hc : bc_code k = c) (hd : decode c pc = .ok (.lookupswitch dflt ps, len)) (ht : (pc : Int) + dflt = (tgt : Int)) (hp : (ps.toList.zip (ps.toList.drop 1)).all (fun (a, next) => a.1 < next.1) = true) (hx : ∀ q ∈ ps.toList, ¬ x = q.1) : Ev d k pc ls (vI x :: st) h Q ↔ Ev d k tgt ls st h Q := by
  refine ev_n hc hd ?_
  show bc_lsw pc dflt ps ls h (vI x :: st) = _
  unfold bc_lsw
  dsimp only
  rw [if_pos hp, bc_lsw_none hx]
  exact bc_jmp_to ht
end EW
