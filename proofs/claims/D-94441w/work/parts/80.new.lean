/-! ===== NEW OBJECTS AND ARRAYS ===== -/
section SNW
variable {p : Program} {l : Launch} {e : Env} {R : Room} {s : State} {m : MethodId} {args : Array Value} {below : List Frame} {meth : Method} {c : Code} {H : Heap} {locs : List Loc} {cells slots : Nat} {Q : State → Prop} {s0 : State} {D : va_G} {σ : Nat → Value} {nL : Nat}
variable {cc : ByteArray} {pc len pc' k : Nat} {ls ls' st st' : List AV} {h h' : AH} {lsr : Array Slot} {sr : List Value}
def bc_z (t : Nat) : AV := match t with
  | 3 => vJ 0
  | 4 => vR 0
  | _ => vI 0
theorem rd_zero {t : Nat} {a : Nat} {j : Int} (eI : gI h a j = 0) (eR : gR h a j = 0) : bc_rd h a j t = bc_z t := by
  match t with
  | 3 => show vJ (gI h a j) = _; rw [eI]; rfl
  | 4 => show vR (gR h a j) = _; rw [eR]; rfl
  | 0 => show vI (gI h a j) = _; rw [eI]; rfl
  | 1 => show vI (gI h a j) = _; rw [eI]; rfl
  | 2 => show vI (gI h a j) = _; rw [eI]; rfl
  | x + 5 => show vI (gI h a j) = _; rw [eI]; rfl
theorem VR_dflt {B : Nat} {t : Nat} {ty : FieldType} (ht : okTy t ty = true) : VR B σ (bc_z t) (defaultValue ty) := by
  match t, ty with
  | 0, .int => exact ⟨0, rfl, rfl⟩
  | 1, .boolean => exact ⟨0, rfl, rfl⟩
  | 2, .byte => exact ⟨0, rfl, rfl⟩
  | 3, .long => exact ⟨0, rfl, rfl⟩
  | 4, .object _ => exact ⟨rfl, Or.inl rfl⟩
  | 4, .array _ => exact ⟨rfl, Or.inl rfl⟩
theorem nw_I {x u : Nat} {n j : Int} : gI (nw h x n u) (hN h) j = 0 := by
  show (if h.1 = h.1 then (0 : Int) else _) = 0
  rw [if_pos rfl]
theorem nw_R {x u : Nat} {n j : Int} : gR (nw h x n u) (hN h) j = 0 := by
  show (if h.1 = h.1 then (0 : Nat) else _) = 0
  rw [if_pos rfl]
theorem nw_K {x u : Nat} {n : Int} : hK (nw h x n u) (hN h) = x := by
  show (if h.1 = h.1 then x else _) = x
  rw [if_pos rfl]
theorem rho_new (hh : HR s0 D σ h H) : rhoV s0.heap.size σ (hN h) = .ref H.size := by
  rw [rho_hi hh.1]
  have := hh.2.1
  have := hh.1
  have e9 : s0.heap.size + (hN h - 16) = H.size := by omega
  rw [e9]
/-- an object is made -/
theorem sh_new {x : Nat} {r : vw_C} {own : String} {idx N : Nat} (hσ : SpOk s0.heap.size σ) (hx : p.tables.exec = Jvm.exec) (hb : c.code = cc) (hdg : decode cc pc = .ok (.new idx, 3)) (hown : s.vm.findClass own = some m.cls) (hC : ClsAt s args D x r) (hr : bc_cls x = some r) (hx40 : x ≤ 40)
    (hcl : (Cond.classLink own idx r.1).before args s = true) (hinst : (Cond.instantiable r.1 N).before args s = true) (hini : (Cond.initialized r.1).before args s = true) (hcells : cells + 1 ≤ R.cells) (hslots : slots + N ≤ R.slots)
    (hh : HR s0 D σ h H) (hlo : ∀ q ∈ locs, s0.heap.size ≤ q.base) (hl : LR s0.heap.size σ ls nL lsr) (hs : SR s0.heap.size σ st sr) (K : KH p l e R s m args below meth c Q s0 D σ nL (nw h x 0 N) (cells + 1) (slots + N) (pc + 3) ls (vR (hN h) :: st)) : W p l e R s m args below meth c H locs cells slots Q (F0 m pc lsr sr) := by
  obtain ⟨hKn, hws, ⟨ty, hty⟩, hnm⟩ := hC
  refine W.newc hx hb hown hcl hinst hini rfl hdg hcells hslots (fun cC kC hfc hkC hkind hsz => ?_)
  have ecC : cC = D.1 x := Option.some.inj (hfc.symm.trans hKn.2.1)
  subst ecC
  have hcell : (H.push { cls := D.1 x, slots := kC.instanceTypes.map defaultValue, vm := .none })[H.size]? = some (blank (D.1 x) kC) := by
    rw [Array.getElem?_push, if_pos rfl]
    rfl
  obtain ⟨cell, g1, g2, g3, g4⟩ := u_born ty (ws := u_ws r.1 r.2.1 r.2.2) hws (fun _ z => z) hKn hkC hcell (fun k hk => (hty k hk).1)
  refine K _ _ _ _ (hh.push hσ ?_) hlo hl ⟨⟨by rw [rho_new hh], Or.inr ⟨_, rfl⟩⟩, hs⟩
  unfold CR
  rw [nw_K]
  refine ⟨fun _ => ⟨H.size, cell, r, rho_new hh, g1, hr, g2, g3, fun j hj => ⟨_, g4 j hj, ?_⟩⟩, fun z => absurd z (by omega)⟩
  rw [rd_zero nw_I nw_R]
  exact VR_dflt (hty j hj).2
/-- an array of numbers is made -/
theorem sh_newa {x : Nat} {n : Int32} {q : List Value} {r : List AV} {atype : ArrayType} (hσ : SpOk s0.heap.size σ) (hal : s0.vm.Alike s.vm) (hx : p.tables.exec = Jvm.exec) (hb : c.code = cc) (hdg : decode cc pc = .ok (.newarray atype, 2)) (hty : newarray.typeOf atype = bc_aty x) (hx1 : 101 ≤ x) (hx2 : x ≤ 104) (harr : (Cond.arrayClass (newarray.typeOf atype)).before args s = true) (h0 : 0 ≤ n.toInt) (h1 : n.toInt ≤ 100000) (hcells : cells + 1 ≤ R.cells) (hslots : slots + n.toInt.toNat ≤ R.slots)
    (hh : HR s0 D σ h H) (hlo : ∀ q ∈ locs, s0.heap.size ≤ q.base) (hl : LR s0.heap.size σ ls nL lsr) (hs : SR s0.heap.size σ r q) (K : KH p l e R s m args below meth c Q s0 D σ nL (nw h x n.toInt n.toInt.toNat) (cells + 1) (slots + n.toInt.toNat) (pc + 2) ls (vR (hN h) :: r)) : W p l e R s m args below meth c H locs cells slots Q (F0 m pc lsr (.int n :: q)) := by
  have en : n.toNatClampNeg = n.toInt.toNat := rfl
  have hx3 : x = 101 ∨ x = 102 ∨ x = 103 ∨ x = 104 := by omega
  have hbytes : n.toNatClampNeg * componentBytes (newarray.typeOf atype) ≤ 536870912 := by
    have : componentBytes (newarray.typeOf atype) ≤ 8 := by
      rw [hty]
      rcases hx3 with rfl | rfl | rfl | rfl <;> decide
    have h2 : n.toNatClampNeg ≤ 100000 := by rw [en]; omega
    calc n.toNatClampNeg * componentBytes (newarray.typeOf atype) ≤ 100000 * 8 := Nat.mul_le_mul h2 this
      _ ≤ 536870912 := by decide
  refine W.newa hx hb harr rfl hdg rfl (fun z => ?_) hbytes hcells hslots (fun cA kA comp hfc hkA hkind => ?_)
  · rw [Int32.lt_iff_toInt_lt] at z
    have : (0 : Int32).toInt = 0 := rfl
    omega
  refine K _ _ _ _ (hh.push hσ ?_) hlo hl ⟨⟨by rw [rho_new hh], Or.inr ⟨_, rfl⟩⟩, hs⟩
  rw [hty] at hfc hkind ⊢
  refine AR_new (fun slots => State.isArrayOf_alike hal.symm ⟨(fun _ z => by cases z), kA, hkA, comp, hkind⟩) ?_ (by rw [en]; exact (Int.toNat_of_nonneg h0).symm) (by rw [en]; omega) ?_ hh (by omega)
  · refine va_RA.moved hal.symm ?_
    rcases hx3 with rfl | rfl | rfl | rfl <;> exact hfc
  · rcases hx3 with rfl | rfl | rfl | rfl <;> exact ⟨0, rfl, rfl⟩
end SNW
