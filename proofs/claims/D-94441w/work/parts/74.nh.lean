section SO
variable {p : Program} {l : Launch} {e : Env} {R : Room} {s : State} {m : MethodId} {args : Array Value} {below : List Frame} {meth : Method} {c : Code} {H : Heap} {locs : List Loc} {cells slots : Nat} {Q : State → Prop} {B : Nat} {σ : Nat → Value} {nL : Nat}
variable {cc : ByteArray} {pc len pc' k : Nat} {ls ls' st st' : List AV} {h h' : AH} {lsr : Array Slot} {sr : List Value}
theorem sm_div  {st0 : List AV} {x y : Int32} {s1 : AV} {r : List AV} {q : List Value} {v : Value} (hne : bc_go pc 1 ls h (if y.toInt = 0 then none else some (s1 :: r)) = some (.inl (pc', ls', st', h'))) (hl : LR B σ ls nL lsr) (hs : SR B σ r q) (hv : VR B σ s1 v) (row : ¬ y = 0 → W p l e R s m args below meth c H locs cells slots Q (F0 m (pc + 1) lsr (v :: q)) → W p l e R s m args below meth c H locs cells slots Q (F0 m pc lsr sr)) : h' = h ∧ (Kn p l e R s m args below meth c H locs cells slots Q B σ nL pc' ls' st' → W p l e R s m args below meth c H locs cells slots Q (F0 m pc lsr sr)) := by
  obtain ⟨e1, rfl, rfl, rfl⟩ := bc_go_inv hne
  split at e1
  · cases e1
  · rename_i hy
    cases e1
    exact ⟨rfl, fun K => row (fun z => hy (by rw [z]; rfl)) (K _ _ hl ⟨hv, hs⟩)⟩
theorem sm_div64 {st0 : List AV} {y : Int64} {s1 : AV} {r : List AV} {q : List Value} {v : Value} (hne : bc_go pc 1 ls h (if y.toInt = 0 then none else some (s1 :: r)) = some (.inl (pc', ls', st', h'))) (hl : LR B σ ls nL lsr) (hs : SR B σ r q) (hv : VR B σ s1 v) (row : ¬ y = 0 → W p l e R s m args below meth c H locs cells slots Q (F0 m (pc + 1) lsr (v :: q)) → W p l e R s m args below meth c H locs cells slots Q (F0 m pc lsr sr)) : h' = h ∧ (Kn p l e R s m args below meth c H locs cells slots Q B σ nL pc' ls' st' → W p l e R s m args below meth c H locs cells slots Q (F0 m pc lsr sr)) := by
  obtain ⟨e1, rfl, rfl, rfl⟩ := bc_go_inv hne
  split at e1
  · cases e1
  · rename_i hy
    cases e1
    exact ⟨rfl, fun K => row (fun z => hy (by rw [z]; rfl)) (K _ _ hl ⟨hv, hs⟩)⟩
theorem u_rem {a b : Int64} : (a - a / b * b).toInt = Int.tmod a.toInt b.toInt := by
  have h1 : (a % b).toInt = Int.tmod a.toInt b.toInt := Int64.toInt_mod a b
  have h2 : a - a / b * b = a % b := by
    have e : Int.tmod a.toInt b.toInt = a.toInt - b.toInt * Int.tdiv a.toInt b.toInt := by
      have := Int.tmod_add_mul_tdiv a.toInt b.toInt
      omega
    apply Int64.toInt_inj.mp
    rw [h1, u_sub, u_mul, u_div]
    unfold w64
    rw [Int.bmod_mul_bmod, Int.sub_bmod_bmod, Int.mul_comm, ← e]
    have l1 := Int64.le_toInt (a % b)
    have l2 := Int64.toInt_lt (a % b)
    rw [h1] at l1 l2
    exact w64_idR l1 l2
  rw [h2, h1]
theorem u_lt {x y : Int64} : x < y ↔ x.toInt < y.toInt := Int64.lt_iff_toInt_lt
theorem u_eq {x y : Int64} : x = y ↔ x.toInt = y.toInt := Int64.toInt_inj.symm
theorem VR.c1 {x : AV} {v : Value} (h : VR B σ x v) (hc : bc_isC2 x = false) : v.category = 1 := by
  rw [h.cat]; unfold bc_cat; rw [hc]; rfl
theorem bc_dup_inv (e : bc_dup st = some st') : ∃ a r, st = a :: r ∧ bc_isC2 a = false ∧ st' = a :: a :: r := by
  unfold bc_dup at e
  split at e
  · split at e
    · cases e
    · rename_i a r hc
      cases e
      exact ⟨a, r, rfl, by revert hc; cases bc_isC2 a <;> simp, rfl⟩
  · cases e
theorem bc_pop_inv (e : bc_pop st = some st') : ∃ a, st = a :: st' ∧ bc_isC2 a = false := by
  unfold bc_pop at e
  split at e
  · split at e
    · cases e
    · rename_i a r hc
      cases e
      exact ⟨a, rfl, by revert hc; cases bc_isC2 a <;> simp⟩
  · cases e
theorem bc_dupx1_inv (e : bc_dupx1 st = some st') : ∃ a b r, st = a :: b :: r ∧ bc_isC2 a = false ∧ bc_isC2 b = false ∧ st' = a :: b :: a :: r := by
  unfold bc_dupx1 at e
  split at e
  · split at e
    · cases e
    · rename_i a b r hc
      cases e
      exact ⟨a, b, r, rfl, by revert hc; cases bc_isC2 a <;> simp, by revert hc; cases bc_isC2 b <;> simp, rfl⟩
  · cases e
theorem bc_dup2_inv (e : bc_dup2 st = some st') : (∃ z r, st = .inr (.inl z) :: r ∧ st' = vJ z :: vJ z :: r) ∨ ∃ a b r, st = a :: b :: r ∧ bc_isC2 a = false ∧ bc_isC2 b = false ∧ st' = a :: b :: a :: b :: r := by
  unfold bc_dup2 at e
  split at e
  · cases e
    exact Or.inl ⟨_, _, rfl, rfl⟩
  · split at e
    · cases e
    · rename_i a b r _ hc
      cases e
      exact Or.inr ⟨a, b, r, rfl, by revert hc; cases bc_isC2 a <;> simp, by revert hc; cases bc_isC2 b <;> simp, rfl⟩
  · cases e
theorem lg_toInt {x y : Int64} : (lg_cmp x y).toInt = jCmp x.toInt y.toInt := by
  unfold lg_cmp jCmp
  simp only [u_lt, u_eq]
  by_cases h1 : y.toInt < x.toInt
  · rw [if_pos h1, if_neg (by omega), if_neg (by omega)]; rfl
  · rw [if_neg h1]
    by_cases h2 : x.toInt < y.toInt
    · rw [if_neg (by omega), if_pos h2]; rfl
    · rw [if_pos (by omega), if_neg h2, if_pos (by omega)]; rfl
def bc_nh (i : Instr) : Bool := match i with
  | .iconst _ => true
  | .bipush _ => true
  | .sipush _ => true
  | .lconst _ => true
  | .aconst_null => true
  | .iload _ => true
  | .iload_n _ => true
  | .lload _ => true
  | .lload_n _ => true
  | .aload _ => true
  | .aload_n _ => true
  | .istore _ => true
  | .istore_n _ => true
  | .lstore _ => true
  | .lstore_n _ => true
  | .astore _ => true
  | .astore_n _ => true
  | .iinc _ _ => true
  | .iadd => true
  | .isub => true
  | .imul => true
  | .idiv => true
  | .irem => true
  | .ineg => true
  | .iand => true
  | .ior => true
  | .ixor => true
  | .ishl => true
  | .ishr => true
  | .iushr => true
  | .ladd => true
  | .lsub => true
  | .lmul => true
  | .ldiv => true
  | .lrem => true
  | .lneg => true
  | .land => true
  | .lor => true
  | .lxor => true
  | .lshl => true
  | .lshr => true
  | .lushr => true
  | .lcmp => true
  | .i2l => true
  | .l2i => true
  | .i2b => true
  | .i2c => true
  | .dup => true
  | .dup_x1 => true
  | .dup2 => true
  | .pop => true
  | .goto _ => true
  | .ifCond _ _ => true
  | .if_icmp _ _ => true
  | .tableswitch _ _ _ _ => true
  | .lookupswitch _ _ => true
  | _ => false
theorem sim_nh {i : Instr} (hx : p.tables.exec = Jvm.exec) (hb : c.code = cc) (hdg : decode cc pc = .ok (i, len)) (hok : bc_ok i len = true) (hi : bc_nh i = true) (hn : bc_nxt k i pc len ls st h = some (.inl (pc', ls', st', h'))) (hl : LR B σ ls nL lsr) (hs : SR B σ st sr) : h' = h ∧ (Kn p l e R s m args below meth c H locs cells slots Q B σ nL pc' ls' st' → W p l e R s m args below meth c H locs cells slots Q (F0 m pc lsr sr)) := by
  cases i with
  | iconst z =>
    have hk : (-1 ≤ z ∧ z ≤ 5) ∧ len = 1 := by simpa [bc_ok] using hok
    obtain ⟨⟨z0, z1⟩, rfl⟩ := hk
    exact sm_push (x := vI z) (.int (Int32.ofInt z)) ⟨_, rfl, Int32.toInt_ofInt_of_le (by omega) (by omega)⟩ (fun rest kk => lv_iconst hx hb hdg rfl kk) hn hl hs
  | bipush z =>
    have hk : (-128 ≤ z ∧ z ≤ 127) ∧ len = 2 := by simpa [bc_ok] using hok
    obtain ⟨⟨z0, z1⟩, rfl⟩ := hk
    exact sm_push (x := vI z) (.int ((Int8.ofInt z).toInt32)) ⟨_, rfl, by rw [Int8.toInt_toInt32]; exact Int8.toInt_ofInt_of_le (by omega) (by omega)⟩ (fun rest kk => lv_bipush hx hb hdg rfl kk) hn hl hs
  | sipush z =>
    have hk : (-32768 ≤ z ∧ z ≤ 32767) ∧ len = 3 := by simpa [bc_ok] using hok
    obtain ⟨⟨z0, z1⟩, rfl⟩ := hk
    exact sm_push (x := vI z) (.int ((Int16.ofInt z).toInt32)) ⟨_, rfl, by rw [Int16.toInt_toInt32]; exact Int16.toInt_ofInt_of_le (by omega) (by omega)⟩ (fun rest kk => lv_sipush hx hb hdg rfl kk) hn hl hs
  | lconst z =>
    obtain rfl : len = 1 := by simpa [bc_ok] using hok
    exact sm_push (x := vJ ((z.val : Nat) : Int)) (.long (Int64.ofNat (z : Nat))) ⟨_, rfl, Int64.toInt_ofNat_of_lt (Nat.lt_of_lt_of_le z.isLt (by decide))⟩ (fun rest kk => lv_lconst hx hb hdg rfl kk) hn hl hs
  | aconst_null =>
    obtain rfl : len = 1 := by simpa [bc_ok] using hok
    exact sm_push (x := vR 0) .null ⟨rfl, Or.inl rfl⟩ (fun rest kk => lv_null hx hb hdg kk) hn hl hs
  | iload n =>
    obtain rfl : len = 2 := by simpa [bc_ok] using hok
    exact sm_ldI (fun x rest hv kk => lv_iload hx hb hdg hv kk) hn hl hs
  | iload_n n =>
    obtain rfl : len = 1 := by simpa [bc_ok] using hok
    exact sm_ldI (fun x rest hv kk => lv_iload_n hx hb hdg rfl hv kk) hn hl hs
  | lload n =>
    obtain rfl : len = 2 := by simpa [bc_ok] using hok
    exact sm_ldJ (fun x rest hv kk => lv_lload hx hb hdg hv kk) hn hl hs
  | lload_n n =>
    obtain rfl : len = 1 := by simpa [bc_ok] using hok
    exact sm_ldJ (fun x rest hv kk => lv_lload_n hx hb hdg rfl hv kk) hn hl hs
  | aload n =>
    obtain rfl : len = 2 := by simpa [bc_ok] using hok
    exact sm_ldR (fun v rest hr hv kk => by rcases hr with rfl | ⟨q, rfl⟩; exact lv_aloadN hx hb hdg hv kk; exact lv_aload hx hb hdg hv kk) hn hl hs
  | aload_n n =>
    obtain rfl : len = 1 := by simpa [bc_ok] using hok
    exact sm_ldR (fun v rest hr hv kk => by rcases hr with rfl | ⟨q, rfl⟩; exact lv_aload_nN hx hb hdg rfl hv kk; exact lv_aload_n hx hb hdg rfl hv kk) hn hl hs
  | istore n =>
    obtain rfl : len = 2 := by simpa [bc_ok] using hok
    exact sm_stI (fun x rest lv hv hlt kk => lv_istore hx hb hdg hv hlt rfl kk) hn hl hs
  | istore_n n =>
    obtain rfl : len = 1 := by simpa [bc_ok] using hok
    exact sm_stI (fun x rest lv hv hlt kk => lv_istore_n hx hb hdg rfl hv hlt rfl kk) hn hl hs
  | lstore n =>
    obtain rfl : len = 2 := by simpa [bc_ok] using hok
    exact sm_stJ (fun x rest lv hv hlt kk => lv_lstore hx hb hdg hv hlt rfl kk) hn hl hs
  | lstore_n n =>
    obtain rfl : len = 1 := by simpa [bc_ok] using hok
    exact sm_stJ (fun x rest lv hv hlt kk => lv_lstore_n hx hb hdg rfl hv hlt rfl kk) hn hl hs
  | astore n =>
    obtain rfl : len = 2 := by simpa [bc_ok] using hok
    exact sm_stR (fun v rest lv hr hv hlt kk => by rcases hr with rfl | ⟨q, rfl⟩; exact lv_astoreN hx hb hdg hv hlt rfl kk; exact lv_astore hx hb hdg hv hlt rfl kk) hn hl hs
  | astore_n n =>
    obtain rfl : len = 1 := by simpa [bc_ok] using hok
    exact sm_stR (fun v rest lv hr hv hlt kk => by rcases hr with rfl | ⟨q, rfl⟩; exact lv_astore_nN hx hb hdg rfl hv hlt rfl kk; exact lv_astore_n hx hb hdg rfl hv hlt rfl kk) hn hl hs
  | iinc n z =>
    obtain rfl : len = 3 := by simpa [bc_ok] using hok
    exact sm_inc hx hb hdg hn hl hs
  | iadd =>
    obtain rfl : len = 1 := by simpa [bc_ok] using hok
    exact sm_i2 (fun x y => x + y) (fun _ _ => t_add) (fun x y rest kk => lv_iadd hx hb hdg kk) hn hl hs
  | isub =>
    obtain rfl : len = 1 := by simpa [bc_ok] using hok
    exact sm_i2 (fun x y => x - y) (fun _ _ => t_sub) (fun x y rest kk => lv_isub hx hb hdg kk) hn hl hs
  | imul =>
    obtain rfl : len = 1 := by simpa [bc_ok] using hok
    exact sm_i2 (fun x y => x * y) (fun _ _ => t_mul) (fun x y rest kk => lv_imul hx hb hdg kk) hn hl hs
  | iand =>
    obtain rfl : len = 1 := by simpa [bc_ok] using hok
    exact sm_i2 (fun x y => x &&& y) (fun _ _ => by unfold iAnd; rw [t32, t32]) (fun x y rest kk => lv_iand hx hb hdg kk) hn hl hs
  | ior =>
    obtain rfl : len = 1 := by simpa [bc_ok] using hok
    exact sm_i2 (fun x y => x ||| y) (fun _ _ => by unfold iOr; rw [t32, t32]) (fun x y rest kk => lv_ior hx hb hdg kk) hn hl hs
  | ixor =>
    obtain rfl : len = 1 := by simpa [bc_ok] using hok
    exact sm_i2 (fun x y => x ^^^ y) (fun _ _ => by unfold iXor; rw [t32, t32]) (fun x y rest kk => lv_ixor hx hb hdg kk) hn hl hs
  | ishl =>
    obtain rfl : len = 1 := by simpa [bc_ok] using hok
    exact sm_i2 (fun x y => x <<< (y &&& 31)) (fun _ _ => by unfold iShl; rw [t32, t32]) (fun x y rest kk => lv_ishl hx hb hdg kk) hn hl hs
  | ishr =>
    obtain rfl : len = 1 := by simpa [bc_ok] using hok
    exact sm_i2 (fun x y => x >>> (y &&& 31)) (fun _ _ => by unfold iShr; rw [t32, t32]) (fun x y rest kk => lv_ishr hx hb hdg kk) hn hl hs
  | iushr =>
    obtain rfl : len = 1 := by simpa [bc_ok] using hok
    exact sm_i2 (fun x y => (x.toUInt32 >>> (y.toUInt32 &&& Int32.toUInt32 31)).toInt32) (fun _ _ => by unfold iUshr; rw [t32, t32]) (fun x y rest kk => lv_iushr hx hb hdg rfl kk) hn hl hs
  | ladd =>
    obtain rfl : len = 1 := by simpa [bc_ok] using hok
    exact sm_j2 (fun x y => x + y) (fun _ _ => u_add) (fun x y rest kk => lv_ladd hx hb hdg kk) hn hl hs
  | lsub =>
    obtain rfl : len = 1 := by simpa [bc_ok] using hok
    exact sm_j2 (fun x y => x - y) (fun _ _ => u_sub) (fun x y rest kk => lv_lsub hx hb hdg kk) hn hl hs
  | lmul =>
    obtain rfl : len = 1 := by simpa [bc_ok] using hok
    exact sm_j2 (fun x y => x * y) (fun _ _ => u_mul) (fun x y rest kk => lv_lmul hx hb hdg kk) hn hl hs
  | land =>
    obtain rfl : len = 1 := by simpa [bc_ok] using hok
    exact sm_j2 (fun x y => x &&& y) (fun _ _ => by unfold jAnd; rw [t64, t64]) (fun x y rest kk => lv_land hx hb hdg kk) hn hl hs
  | lor =>
    obtain rfl : len = 1 := by simpa [bc_ok] using hok
    exact sm_j2 (fun x y => x ||| y) (fun _ _ => by unfold jOr; rw [t64, t64]) (fun x y rest kk => lv_lor hx hb hdg kk) hn hl hs
  | lxor =>
    obtain rfl : len = 1 := by simpa [bc_ok] using hok
    exact sm_j2 (fun x y => x ^^^ y) (fun _ _ => by unfold jXor; rw [t64, t64]) (fun x y rest kk => lv_lxor hx hb hdg kk) hn hl hs
  | lshl =>
    obtain rfl : len = 1 := by simpa [bc_ok] using hok
    exact sm_ji (fun x y => x <<< (y.toInt64 &&& 63)) (fun _ _ => by unfold jShl; rw [t64, t32]) (fun x y rest kk => lv_lshl hx hb hdg rfl kk) hn hl hs
  | lshr =>
    obtain rfl : len = 1 := by simpa [bc_ok] using hok
    exact sm_ji (fun x y => x >>> (y.toInt64 &&& 63)) (fun _ _ => by unfold jShr; rw [t64, t32]) (fun x y rest kk => lv_lshr hx hb hdg rfl kk) hn hl hs
  | lushr =>
    obtain rfl : len = 1 := by simpa [bc_ok] using hok
    exact sm_ji (fun x y => (x.toUInt64 >>> (y.toInt64.toUInt64 &&& Int64.toUInt64 63)).toInt64) (fun _ _ => by unfold jUshr; rw [t64, t32]) (fun x y rest kk => lv_lushr hx hb hdg rfl kk) hn hl hs
  | ineg =>
    obtain rfl : len = 1 := by simpa [bc_ok] using hok
    exact sm_i1 (f := fun a => vI (w32 (-a))) (fun x => .int (-x)) (fun x => ⟨_, rfl, t_neg⟩) (fun x rest kk => lv_ineg hx hb hdg kk) hn hl hs
  | lneg =>
    obtain rfl : len = 1 := by simpa [bc_ok] using hok
    exact sm_j1 (f := fun a => vJ (w64 (-a))) (fun x => .long (-x)) (fun x => ⟨_, rfl, u_neg⟩) (fun x rest kk => lv_lneg hx hb hdg kk) hn hl hs
  | i2l =>
    obtain rfl : len = 1 := by simpa [bc_ok] using hok
    exact sm_i1 (f := fun a => vJ a) (fun x => .long x.toInt64) (fun x => ⟨_, rfl, Int32.toInt_toInt64 x⟩) (fun x rest kk => lv_i2l hx hb hdg rfl kk) hn hl hs
  | l2i =>
    obtain rfl : len = 1 := by simpa [bc_ok] using hok
    exact sm_j1 (f := fun a => vI (w32 a)) (fun x => .int x.toInt32) (fun x => ⟨_, rfl, by rw [Int64.toInt_toInt32]; rfl⟩) (fun x rest kk => lv_l2i hx hb hdg rfl kk) hn hl hs
  | i2b =>
    obtain rfl : len = 1 := by simpa [bc_ok] using hok
    exact sm_i1 (f := fun a => vI (i2bZ a)) (fun x => .int x.toInt8.toInt32) (fun x => ⟨_, rfl, by unfold i2bZ; rw [t32]⟩) (fun x rest kk => lv_i2b hx hb hdg rfl kk) hn hl hs
  | i2c =>
    obtain rfl : len = 1 := by simpa [bc_ok] using hok
    exact sm_i1 (f := fun a => vI (i2cZ a)) (fun x => .int (x.toUInt32 % 65536).toInt32) (fun x => ⟨_, rfl, by unfold i2cZ; rw [t32]⟩) (fun x rest kk => lv_i2c hx hb hdg rfl kk) hn hl hs
  | idiv =>
    obtain rfl : len = 1 := by simpa [bc_ok] using hok
    have hn : bc_go pc 1 ls h (bc_idiv st) = _ := hn
    unfold bc_idiv at hn
    split at hn
    · obtain ⟨y, q, rfl, rfl, hs2⟩ := hs.i
      obtain ⟨x, q, rfl, rfl, hs3⟩ := hs2.i
      exact sm_div (st0 := []) (x := x) (v := .int (x / y)) hn hl hs3 ⟨_, rfl, t_div⟩ (fun hy kk => lv_idiv hx hb hdg hy kk)
    · cases hn
  | irem =>
    obtain rfl : len = 1 := by simpa [bc_ok] using hok
    have hn : bc_go pc 1 ls h (bc_irem st) = _ := hn
    unfold bc_irem at hn
    split at hn
    · obtain ⟨y, q, rfl, rfl, hs2⟩ := hs.i
      obtain ⟨x, q, rfl, rfl, hs3⟩ := hs2.i
      exact sm_div (st0 := []) (x := x) (v := .int (x - x / y * y)) hn hl hs3 ⟨_, rfl, t_rem⟩ (fun hy kk => lv_irem hx hb hdg hy kk)
    · cases hn
  | ldiv =>
    obtain rfl : len = 1 := by simpa [bc_ok] using hok
    have hn : bc_go pc 1 ls h (bc_jdiv st) = _ := hn
    unfold bc_jdiv at hn
    split at hn
    · obtain ⟨y, q, rfl, rfl, hs2⟩ := hs.j
      obtain ⟨x, q, rfl, rfl, hs3⟩ := hs2.j
      exact sm_div64 (st0 := []) (v := .long (x / y)) hn hl hs3 ⟨_, rfl, u_div⟩ (fun hy kk => lv_ldiv hx hb hdg hy kk)
    · cases hn
  | lrem =>
    obtain rfl : len = 1 := by simpa [bc_ok] using hok
    have hn : bc_go pc 1 ls h (bc_jrem st) = _ := hn
    unfold bc_jrem at hn
    split at hn
    · obtain ⟨y, q, rfl, rfl, hs2⟩ := hs.j
      obtain ⟨x, q, rfl, rfl, hs3⟩ := hs2.j
      exact sm_div64 (st0 := []) (v := .long (x - x / y * y)) hn hl hs3 ⟨_, rfl, u_rem⟩ (fun hy kk => lv_lrem hx hb hdg hy kk)
    · cases hn
  | lcmp =>
    obtain rfl : len = 1 := by simpa [bc_ok] using hok
    have hn : bc_go pc 1 ls h (bc_lcmp st) = _ := hn
    unfold bc_lcmp at hn
    split at hn
    · obtain ⟨y, q, rfl, rfl, hs2⟩ := hs.j
      obtain ⟨x, q, rfl, rfl, hs3⟩ := hs2.j
      obtain ⟨e1, rfl, rfl, rfl⟩ := bc_go_inv hn
      cases e1
      exact ⟨rfl, fun K => W.lcmp hx hb hdg (K _ _ hl ⟨⟨_, rfl, lg_toInt⟩, hs3⟩)⟩
    · cases hn
  | dup =>
    obtain rfl : len = 1 := by simpa [bc_ok] using hok
    obtain ⟨e1, rfl, rfl, rfl⟩ := bc_go_inv (show bc_go pc 1 ls h (bc_dup st) = _ from hn)
    obtain ⟨a, r, rfl, hc, rfl⟩ := bc_dup_inv e1
    obtain ⟨v, q, rfl, hv, hs2⟩ := hs.one
    exact ⟨rfl, fun K => lv_dup hx hb hdg (hv.c1 hc) (K _ _ hl ⟨hv, hv, hs2⟩)⟩
  | pop =>
    obtain rfl : len = 1 := by simpa [bc_ok] using hok
    obtain ⟨e1, rfl, rfl, rfl⟩ := bc_go_inv (show bc_go pc 1 ls h (bc_pop st) = _ from hn)
    obtain ⟨a, rfl, hc⟩ := bc_pop_inv e1
    obtain ⟨v, q, rfl, hv, hs2⟩ := hs.one
    exact ⟨rfl, fun K => lv_pop hx hb hdg (hv.c1 hc) (K _ _ hl hs2)⟩
  | dup_x1 =>
    obtain rfl : len = 1 := by simpa [bc_ok] using hok
    obtain ⟨e1, rfl, rfl, rfl⟩ := bc_go_inv (show bc_go pc 1 ls h (bc_dupx1 st) = _ from hn)
    obtain ⟨a, b, r, rfl, hc, hc2, rfl⟩ := bc_dupx1_inv e1
    obtain ⟨v, q, rfl, hv, hs2⟩ := hs.one
    obtain ⟨v2, q, rfl, hv2, hs3⟩ := hs2.one
    exact ⟨rfl, fun K => lv_dup_x1 hx hb hdg (hv.c1 hc) (hv2.c1 hc2) (K _ _ hl ⟨hv, hv2, hv, hs3⟩)⟩
  | dup2 =>
    obtain rfl : len = 1 := by simpa [bc_ok] using hok
    obtain ⟨e1, rfl, rfl, rfl⟩ := bc_go_inv (show bc_go pc 1 ls h (bc_dup2 st) = _ from hn)
    rcases bc_dup2_inv e1 with ⟨z, r, rfl, rfl⟩ | ⟨a, b, r, rfl, hc, hc2, rfl⟩
    · obtain ⟨v, q, rfl, hv, hs2⟩ := hs.one
      exact ⟨rfl, fun K => lv_dup2_2 hx hb hdg (by rw [hv.cat]; rfl) (K _ _ hl ⟨hv, hv, hs2⟩)⟩
    · obtain ⟨v, q, rfl, hv, hs2⟩ := hs.one
      obtain ⟨v2, q, rfl, hv2, hs3⟩ := hs2.one
      exact ⟨rfl, fun K => lv_dup2_11 hx hb hdg (hv.c1 hc) (hv2.c1 hc2) (K _ _ hl ⟨hv, hv2, hv, hv2, hs3⟩)⟩
  | goto off =>
    obtain rfl : len = 3 := by simpa [bc_ok] using hok
    obtain ⟨h1, rfl, rfl, rfl⟩ := bc_jmp_inv (show bc_jmp pc off ls st h = _ from hn)
    exact ⟨rfl, fun K => lv_goto hx hb hdg h1 (K _ _ hl hs)⟩
  | ifCond cnd off =>
    obtain rfl : len = 3 := by simpa [bc_ok] using hok
    have hn : (match st with | .inl a :: r => bc_br (bc_cc cnd a 0) pc off ls r h | _ => none) = _ := hn
    split at hn
    · obtain ⟨x, q, rfl, rfl, hs2⟩ := hs.i
      exact sm_if hx hb hdg hn hl hs2 rfl
    · cases hn
  | if_icmp cnd off =>
    obtain rfl : len = 3 := by simpa [bc_ok] using hok
    have hn : (match st with | .inl b :: .inl a :: r => bc_br (bc_cc cnd a b) pc off ls r h | _ => none) = _ := hn
    split at hn
    · obtain ⟨y, q, rfl, rfl, hs2⟩ := hs.i
      obtain ⟨x, q, rfl, rfl, hs3⟩ := hs2.i
      exact sm_icmp hx hb hdg hn hl hs3 rfl
    · cases hn
  | tableswitch dflt lo hi2 offs =>
    have hn : bc_tsw pc dflt lo hi2 offs ls h st = _ := hn
    unfold bc_tsw at hn
    split at hn
    · obtain ⟨x, q, rfl, rfl, hs2⟩ := hs.i
      split at hn
      · rename_i hout
        obtain ⟨h1, rfl, rfl, rfl⟩ := bc_jmp_inv hn
        exact ⟨rfl, fun K => lv_tableOut hx hb hdg hout h1 (K _ _ hl hs2)⟩
      · rename_i hin
        split at hn
        · rename_i off ho
          obtain ⟨h1, rfl, rfl, rfl⟩ := bc_jmp_inv hn
          exact ⟨rfl, fun K => lv_tableIn hx hb hdg (fun z => hin (Or.inl z)) (fun z => hin (Or.inr z)) ho h1 (K _ _ hl hs2)⟩
        · cases hn
    · cases hn
  | lookupswitch dflt ps =>
    have hn : bc_lsw pc dflt ps ls h st = _ := hn
    unfold bc_lsw at hn
    split at hn
    · obtain ⟨x, q, rfl, rfl, hs2⟩ := hs.i
      split at hn
      · rename_i hp
        obtain ⟨h1, rfl, rfl, rfl⟩ := bc_jmp_inv hn
        exact ⟨rfl, fun K => lv_lookup hx hb hdg hp rfl h1 (K _ _ hl hs2)⟩
      · cases hn
    · cases hn
  | _ => exact absurd hi Bool.false_ne_true
end SO
