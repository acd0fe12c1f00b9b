/-! ===== FIELDS ===== -/
def okTy : Nat → FieldType → Bool
  | 0, .int => true
  | 1, .boolean => true
  | 2, .byte => true
  | 3, .long => true
  | 4, .object _ => true
  | 4, .array _ => true
  | _, _ => false
section WR
variable {h h' : AH} {a : Nat} {j : Int} {t : Nat} {y : AV} {B : Nat} {σ : Nat → Value} {v : Value}
theorem bc_wr_inv (hw : bc_wr h a j t y = some h') : (∃ z, y = .inl z ∧ h' = sI h a j z ∧ (t = 0 ∨ (t = 1 ∧ (z = 0 ∨ z = 1)) ∨ (t = 2 ∧ -128 ≤ z ∧ z ≤ 127))) ∨ (∃ z, y = .inr (.inl z) ∧ h' = sI h a j z ∧ t = 3) ∨ (∃ z, y = .inr (.inr (.inl z)) ∧ h' = sR h a j z ∧ t = 4) := by
  unfold bc_wr at hw
  split at hw
  · cases hw
    exact Or.inl ⟨_, rfl, rfl, Or.inl rfl⟩
  · split at hw
    · rename_i hz
      cases hw
      exact Or.inl ⟨_, rfl, rfl, Or.inr (Or.inl ⟨rfl, hz⟩)⟩
    · cases hw
  · split at hw
    · rename_i hz
      cases hw
      exact Or.inl ⟨_, rfl, rfl, Or.inr (Or.inr ⟨rfl, hz⟩)⟩
    · cases hw
  · cases hw
    exact Or.inr (Or.inl ⟨_, rfl, rfl, rfl⟩)
  · cases hw
    exact Or.inr (Or.inr ⟨_, rfl, rfl, rfl⟩)
  · cases hw
theorem wr_N (hw : bc_wr h a j t y = some h') : hN h' = hN h := by
  rcases bc_wr_inv hw with ⟨z, -, rfl, -⟩ | ⟨z, -, rfl, -⟩ | ⟨z, -, rfl, -⟩ <;> rfl
theorem wr_U (hw : bc_wr h a j t y = some h') : hU h' = hU h := by
  rcases bc_wr_inv hw with ⟨z, -, rfl, -⟩ | ⟨z, -, rfl, -⟩ | ⟨z, -, rfl, -⟩ <;> rfl
theorem wr_K (hw : bc_wr h a j t y = some h') (b : Nat) : hK h' b = hK h b := by
  rcases bc_wr_inv hw with ⟨z, -, rfl, -⟩ | ⟨z, -, rfl, -⟩ | ⟨z, -, rfl, -⟩ <;> rfl
theorem wr_L (hw : bc_wr h a j t y = some h') (b : Nat) : hL h' b = hL h b := by
  rcases bc_wr_inv hw with ⟨z, -, rfl, -⟩ | ⟨z, -, rfl, -⟩ | ⟨z, -, rfl, -⟩ <;> rfl
theorem sI_get {z : Int} {b : Nat} {i : Int} : gI (sI h a j z) b i = if b = a ∧ i = j then z else gI h b i := rfl
theorem sR_get {z : Nat} {b : Nat} {i : Int} : gR (sR h a j z) b i = if b = a ∧ i = j then z else gR h b i := rfl
theorem wr_I (hw : bc_wr h a j t y = some h') (b : Nat) (i : Int) (hb : b ≠ a) : gI h' b i = gI h b i := by
  rcases bc_wr_inv hw with ⟨z, -, rfl, -⟩ | ⟨z, -, rfl, -⟩ | ⟨z, -, rfl, -⟩
  · rw [sI_get, if_neg (fun w => hb w.1)]
  · rw [sI_get, if_neg (fun w => hb w.1)]
  · rfl
theorem wr_R (hw : bc_wr h a j t y = some h') (b : Nat) (i : Int) (hb : b ≠ a) : gR h' b i = gR h b i := by
  rcases bc_wr_inv hw with ⟨z, -, rfl, -⟩ | ⟨z, -, rfl, -⟩ | ⟨z, -, rfl, -⟩
  · rfl
  · rfl
  · rw [sR_get, if_neg (fun w => hb w.1)]
theorem wr_same (hw : bc_wr h a j t y = some h') : bc_rd h' a j t = y := by
  rcases bc_wr_inv hw with ⟨z, rfl, rfl, q⟩ | ⟨z, rfl, rfl, rfl⟩ | ⟨z, rfl, rfl, rfl⟩
  · have e : gI (sI h a j z) a j = z := by rw [sI_get, if_pos ⟨rfl, rfl⟩]
    rcases q with rfl | ⟨rfl, -⟩ | ⟨rfl, -⟩ <;> exact congrArg vI e
  · have e : gI (sI h a j z) a j = z := by rw [sI_get, if_pos ⟨rfl, rfl⟩]
    exact congrArg vJ e
  · have e : gR (sR h a j z) a j = z := by rw [sR_get, if_pos ⟨rfl, rfl⟩]
    exact congrArg vR e
theorem wr_other (hw : bc_wr h a j t y = some h') {i : Int} {t2 : Nat} (hi : i ≠ j) : bc_rd h' a i t2 = bc_rd h a i t2 := by
  have e1 : gI h' a i = gI h a i := by
    rcases bc_wr_inv hw with ⟨z, -, rfl, -⟩ | ⟨z, -, rfl, -⟩ | ⟨z, -, rfl, -⟩
    · rw [sI_get, if_neg (fun w => hi w.2)]
    · rw [sI_get, if_neg (fun w => hi w.2)]
    · rfl
  have e2 : gR h' a i = gR h a i := by
    rcases bc_wr_inv hw with ⟨z, -, rfl, -⟩ | ⟨z, -, rfl, -⟩ | ⟨z, -, rfl, -⟩
    · rfl
    · rfl
    · rw [sR_get, if_neg (fun w => hi w.2)]
  unfold bc_rd
  split
  · rw [e1]
  · rw [e2]
  · rw [e1]
theorem wr_fits {ty : FieldType} (ht : okTy t ty = true) (hv : VR B σ y v) (hw : bc_wr h a j t y = some h') : narrow ty v = v ∧ fits ty v = true := by
  rcases bc_wr_inv hw with ⟨z, rfl, -, q⟩ | ⟨z, rfl, -, rfl⟩ | ⟨z, rfl, -, rfl⟩
  · obtain ⟨n, rfl, rfl⟩ := hv
    rcases q with rfl | ⟨rfl, q⟩ | ⟨rfl, q1, q2⟩
    · cases ty <;> first | exact ⟨rfl, rfl⟩ | exact absurd ht (by decide) | (simp [okTy] at ht)
    · cases ty <;> first | (simp [okTy] at ht; done) | skip
      have : n = 0 ∨ n = 1 := by
        rcases q with z | z
        · exact Or.inl (Int32.toInt_inj.mp (z.trans rfl))
        · exact Or.inr (Int32.toInt_inj.mp (z.trans rfl))
      rcases this with rfl | rfl <;> exact ⟨rfl, rfl⟩
    · cases ty <;> first | (simp [okTy] at ht; done) | skip
      refine ⟨?_, ?_⟩
      · show Value.int n.toInt8.toInt32 = Value.int n
        congr 1
        apply Int32.toInt_inj.mp
        rw [Int8.toInt_toInt32, Int32.toInt_toInt8]
        exact Int.bmod_eq_of_le (by omega) (by omega)
      · show (decide (-128 ≤ n) && decide (n ≤ 127)) = true
        rw [Bool.and_eq_true, decide_eq_true_eq, decide_eq_true_eq, Int32.le_iff_toInt_le, Int32.le_iff_toInt_le]
        exact ⟨q1, q2⟩
  · obtain ⟨n, rfl, -⟩ := hv
    cases ty <;> first | exact ⟨rfl, rfl⟩ | (simp [okTy] at ht)
  · rcases hv.2 with rfl | ⟨q, rfl⟩
    · cases ty <;> first | exact ⟨rfl, rfl⟩ | (simp [okTy] at ht)
    · cases ty <;> first | exact ⟨rfl, rfl⟩ | (simp [okTy] at ht)
end WR
/-- what is said of a class by its name and fields alone -/
def ClsTab (r : vw_C) : Prop := (∃ ty : Nat → FieldType, ∀ k, k < r.2.2 → parseFieldDescriptor (r.2.1 k).2.2.1 = some (ty k) ∧ okTy (bc_tcode (r.2.1 k).2.2.1) (ty k) = true) ∧ ∀ a, a < r.2.2 → ∀ b, b < r.2.2 → a ≠ b → (r.2.1 a).2.1 ≠ (r.2.1 b).2.1
/-- what the tables say of a class -/
def ClsAt (s : State) (args : Array Value) (D : va_G) (x : Nat) (r : vw_C) : Prop := u_Kn s r.1 r.2.1 r.2.2 (D.1 x) (D.2 x) ∧ (∀ w ∈ u_ws r.1 r.2.1 r.2.2, w.before args s = true) ∧ ClsTab r
/-- a field's link, the class's own or a nest mate's -/
def FLs (s : State) (args : Array Value) (own : String) (idx : Nat) (ref name desc : String) : Prop := (Cond.fieldLink own idx ref name desc).before args s = true ∨ ∃ host, (Cond.fieldLinkNest own idx ref name desc host).before args s = true
section SF
variable {p : Program} {l : Launch} {e : Env} {R : Room} {s : State} {m : MethodId} {args : Array Value} {below : List Frame} {meth : Method} {c : Code} {H : Heap} {locs : List Loc} {cells slots : Nat} {Q : State → Prop} {s0 : State} {D : va_G} {σ : Nat → Value} {nL : Nat}
variable {cc : ByteArray} {pc len pc' k : Nat} {ls ls' st st' : List AV} {h h' : AH} {lsr : Array Slot} {sr : List Value}
theorem W_getf (hx : p.tables.exec = Jvm.exec) (hb : c.code = cc) {own ref name desc : String} {index : Nat} (hown : s.vm.findClass own = some m.cls) (hlink : FLs s args own index ref name desc)
    {cf i : Nat} {k : Class} {f : Field} (hi : s.fieldFound? ref name desc = some (cf, k, i, f)) (hst : f.isStatic = false) {a : Addr} {cell : Cell} {v : Value} (hcell : H[a]? = some cell) (hknown : cell.vm ≠ .unknown) (hslot : cell.slots[f.slot]? = some v) {rest : List Value} (hdg : decode cc pc = .ok (.getfield index, 3))
    (kk : W p l e R s m args below meth c H locs cells slots Q (F0 m (pc + 3) lsr (v :: rest))) : W p l e R s m args below meth c H locs cells slots Q (F0 m pc lsr (.ref a :: rest)) := by
  rcases hlink with hk | ⟨host, hk⟩
  · exact W.getf hx hb hown hk hi hst hcell hknown hslot rfl rfl hdg kk
  · exact va_Wgetf hx hb hown hk hi hst hcell hknown hslot rfl rfl hdg kk
theorem W_putf (hx : p.tables.exec = Jvm.exec) (hb : c.code = cc) {own ref name desc : String} {index : Nat} (hown : s.vm.findClass own = some m.cls) (hlink : FLs s args own index ref name desc)
    {cf i : Nat} {k : Class} {f : Field} (hi : s.fieldFound? ref name desc = some (cf, k, i, f)) (hst : f.isStatic = false) (hfin : hasFlag f.accessFlags Acc.final = false ∨ (m.cls = cf ∧ meth.name = "<init>")) {a : Addr} {cell : Cell} {v : Value} (hcell : H[a]? = some cell) (hvm : cell.vm = .none) (hlt : f.slot < cell.slots.size) (hnarrow : narrow f.type v = v) (hfit : s.fitsSlot cell.cls .none f.slot v = true) {rest : List Value} (hdg : decode cc pc = .ok (.putfield index, 3))
    (kk : ∀ H' : Heap, H'[a]? = some (cell.setSlot f.slot v) → H'.size = H.size → (∀ q, q ≠ a → H'[q]? = H[q]?) → W p l e R s m args below meth c H' (locs ++ [⟨a, f.slot⟩]) cells slots Q (F0 m (pc + 3) lsr rest)) : W p l e R s m args below meth c H locs cells slots Q (F0 m pc lsr (v :: .ref a :: rest)) := by
  have ha : a < H.size := (Array.getElem?_eq_some_iff.mp hcell).1
  have k2 : W p l e R s m args below meth c (H.setIfInBounds a (cell.setSlot f.slot v)) (locs ++ [⟨a, f.slot⟩]) cells slots Q (F0 m (pc + 3) lsr rest) := by
    refine kk _ ?_ ?_ ?_
    · simp [Array.getElem?_setIfInBounds, ha]
    · simp
    · intro q hq
      simp [Array.getElem?_setIfInBounds, Ne.symm hq]
  rcases hlink with hk | ⟨host, hk⟩
  · exact W.putf hx hb hown hk hi hst hfin hcell (by rw [hvm]; exact fun z => by cases z) hlt hnarrow (by rw [hvm]; exact hfit) rfl rfl hdg k2
  · exact va_Wputf hx hb hown hk hi hst hfin hcell (by rw [hvm]; exact fun z => by cases z) hlt hnarrow (by rw [hvm]; exact hfit) rfl rfl hdg k2
/-- a field is read -/
theorem sh_getf {x jn a : Nat} {r : vw_C} {q2 : List Value} {rs : List AV} {own ref : String} {idx : Nat} (hx : p.tables.exec = Jvm.exec) (hb : c.code = cc) (hdg : decode cc pc = .ok (.getfield idx, 3)) (hown : s.vm.findClass own = some m.cls) (hC : ClsAt s args D x r) (hr : bc_cls x = some r) (hj : jn < r.2.2) (hx40 : x ≤ 40) (hx0 : x ≠ 0) (hk : hK h a = x)
    (hlink : FLs s args own idx ref (r.2.1 jn).2.1 (r.2.1 jn).2.2.1) (hsame : ∀ y, s.fieldFound? (r.2.1 jn).1 (r.2.1 jn).2.1 (r.2.1 jn).2.2.1 = some y → s.fieldFound? ref (r.2.1 jn).2.1 (r.2.1 jn).2.2.1 = some y)
    (hh : HR s0 D σ h H) (hlo : ∀ q ∈ locs, s0.heap.size ≤ q.base) (hl : LR s0.heap.size σ ls nL lsr) (hs : SR s0.heap.size σ rs q2) (K : KH p l e R s m args below meth c Q s0 D σ nL h cells slots (pc + 3) ls (bc_rd h a (jn : Int) (bc_tcode (r.2.1 jn).2.2.1) :: rs)) : W p l e R s m args below meth c H locs cells slots Q (F0 m pc lsr (rhoV s0.heap.size σ a :: q2)) := by
  obtain ⟨q, cell, r', a1, a2, a3, a4, a5, a6⟩ := (hh.2.2.2.1 a (by rw [hk]; exact hx0)).1 (by rw [hk]; exact hx40)
  rw [hk] at a3 a4 a6
  cases hr.symm.trans a3
  obtain ⟨v, b1, b2⟩ := a6 jn hj
  obtain ⟨⟨hS, hfc, kC, hkC, hkind⟩, hws, -⟩ := hC
  obtain ⟨cf, kf, fi, f, hi, hsl⟩ := hS jn hj
  rw [a1]
  refine W_getf hx hb hown hlink (hsame _ hi) (u_facts hfc hkC (u_lays (ws := u_ws r.1 r.2.1 r.2.2) hws (fun _ z => z) hj) hi).1 a2 (by rw [a5]; exact fun z => by cases z) (by rw [hsl]; exact b1) hdg (K _ _ _ _ hh hlo hl ⟨b2, hs⟩)
/-- a field is written -/
theorem sh_putf {x jn a : Nat} {r : vw_C} {q2 : List Value} {rs : List AV} {own ref : String} {idx : Nat} {v : Value} {y : AV} (hσ : SpOk s0.heap.size σ) (hx : p.tables.exec = Jvm.exec) (hb : c.code = cc) (hdg : decode cc pc = .ok (.putfield idx, 3)) (hown : s.vm.findClass own = some m.cls) (hC : ClsAt s args D x r) (hr : bc_cls x = some r) (hj : jn < r.2.2) (hx40 : x ≤ 40) (hx0 : x ≠ 0) (hx24 : x ≠ 24) (hk : hK h a = x)
    (hlink : FLs s args own idx ref (r.2.1 jn).2.1 (r.2.1 jn).2.2.1) (hsame : ∀ y, s.fieldFound? (r.2.1 jn).1 (r.2.1 jn).2.1 (r.2.1 jn).2.2.1 = some y → s.fieldFound? ref (r.2.1 jn).2.1 (r.2.1 jn).2.2.1 = some y)
    (hfin : (r.2.1 jn).2.2.2 = false ∨ ((r.2.1 jn).2.2.2 = true ∧ (r.2.1 jn).1 = own ∧ meth.name = "<init>"))
    (hv : VR s0.heap.size σ y v) (hw : bc_wr h a (jn : Int) (bc_tcode (r.2.1 jn).2.2.1) y = some h')
    (hh : HR s0 D σ h H) (hlo : ∀ q ∈ locs, s0.heap.size ≤ q.base) (hl : LR s0.heap.size σ ls nL lsr) (hs : SR s0.heap.size σ rs q2) (K : KH p l e R s m args below meth c Q s0 D σ nL h' cells slots (pc + 3) ls rs) : W p l e R s m args below meth c H locs cells slots Q (F0 m pc lsr (v :: rhoV s0.heap.size σ a :: q2)) := by
  have ha : 16 ≤ a := hh.hi (by omega) (by omega) (by omega) (by omega) (by omega)
  obtain ⟨q, cell, r', a1, a2, a3, a4, a5, a6⟩ := (hh.2.2.2.1 a (by rw [hk]; exact hx0)).1 (by rw [hk]; exact hx40)
  rw [hk] at a3 a4 a6
  cases hr.symm.trans a3
  have eq : q = s0.heap.size + (a - 16) := by rw [rho_hi ha] at a1; cases a1; rfl
  obtain ⟨⟨hS, hfc, kC, hkC, hkind⟩, hws, ⟨ty, hty⟩, hnm⟩ := hC
  obtain ⟨cf, kf, fi, f, hi, hsl⟩ := hS jn hj
  have hlays := u_lays (ws := u_ws r.1 r.2.1 r.2.2) hws (fun _ z => z) hj
  have hlay := hws _ (u_in_lay hj)
  obtain ⟨ht1, ht2⟩ := hty jn hj
  have hst := (u_facts hfc hkC hlays hi).1
  -- what is written fits
  have hnf : narrow (ty jn) v = v ∧ fits (ty jn) v = true := wr_fits ht2 hv hw
  obtain ⟨hf1, hf2⟩ := u_fits hfc hkC hkind hlays hi ht1 hnf.1 hnf.2
  have hfinal : hasFlag f.accessFlags Acc.final = false ∨ (m.cls = cf ∧ meth.name = "<init>") := by
    rcases hfin with z | ⟨z1, z2, z3⟩
    · unfold u_lay at hlay
      rw [if_neg (by rw [z]; decide)] at hlay
      exact Or.inl (u_store hfc hkC hkind hlay hi ht1 hnf.1 hnf.2).1
    · unfold u_lay at hlay
      rw [if_pos z1] at hlay
      refine Or.inr ⟨?_, z3⟩
      obtain ⟨_, _, c', _, _, _, -, -, hf', -, -, -, hown2, -⟩ := Cond.laysFinal_spec hlay
      have e1 : c' = cf := by have := hi.symm.trans hf'; simp at this; exact this.1.symm
      rw [z2] at hown2
      rw [← e1]
      exact Option.some.inj (hown.symm.trans hown2)
  have hlt : D.2 x jn < cell.slots.size := by
    obtain ⟨w, b1, -⟩ := a6 jn hj
    exact (Array.getElem?_eq_some_iff.mp b1).1
  rw [a1]
  refine W_putf hx hb hown hlink (hsame _ hi) hst hfinal a2 a5 (by rw [hsl]; exact hlt) hf1 (by rw [a4]; exact hf2) hdg (fun H' e1 e2 e3 => K _ _ _ _ ?_ ?_ hl hs)
  · rw [hsl] at e1
    refine hh.upd hσ ha (wr_N hw) (wr_K hw) (wr_L hw) (wr_I hw) (wr_R hw) e2 (fun q1 hq1 => e3 q1 (by rw [eq]; exact hq1)) ?_
    unfold CR
    rw [wr_K hw, hk]
    refine ⟨fun _ => ⟨q, cell.setSlot (D.2 x jn) v, r, a1, e1, hr, a4, a5, fun i hi2 => ?_⟩, fun z => absurd z (by omega)⟩
    rw [setSlot_get hlt]
    by_cases ei : i = jn
    · subst ei
      rw [if_pos rfl]
      exact ⟨v, rfl, by rw [wr_same hw]; exact hv⟩
    · obtain ⟨w, b1, b2⟩ := a6 i hi2
      have hne : D.2 x i ≠ D.2 x jn := by
        obtain ⟨_, _, _, fa, hia, ea⟩ := hS i hi2
        rw [← ea, ← hsl]
        refine u_apart (u_lays (ws := u_ws r.1 r.2.1 r.2.2) hws (fun _ z => z) hi2) hlays hia hi ?_
        rw [(State.fieldFound?_type hia (hty i hi2).1).1, (State.fieldFound?_type hi ht1).1]
        exact hnm i hi2 jn hj ei
      rw [if_neg hne]
      refine ⟨w, b1, ?_⟩
      rw [wr_other hw (by omega)]
      exact b2
  · intro q1 hq1
    rcases List.mem_append.mp hq1 with z1 | z1
    · exact hlo q1 z1
    · rw [List.mem_singleton] at z1
      subst z1
      show s0.heap.size ≤ q
      omega
end SF
