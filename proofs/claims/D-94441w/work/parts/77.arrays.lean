/-! ===== ARRAYS ===== -/
section SA
variable {p : Program} {l : Launch} {e : Env} {R : Room} {s : State} {m : MethodId} {args : Array Value} {below : List Frame} {meth : Method} {c : Code} {H : Heap} {locs : List Loc} {cells slots : Nat} {Q : State → Prop} {s0 : State} {D : va_G} {σ : Nat → Value} {nL : Nat}
variable {cc : ByteArray} {pc len pc' k : Nat} {ls ls' st st' : List AV} {h h' : AH} {lsr : Array Slot} {sr : List Value}
def KH (p : Program) (l : Launch) (e : Env) (R : Room) (s : State) (m : MethodId) (args : Array Value) (below : List Frame) (meth : Method) (c : Code) (Q : State → Prop) (s0 : State) (D : va_G) (σ : Nat → Value) (nL : Nat) (h : AH) (cells slots pc : Nat) (ls st : List AV) : Prop :=
  ∀ (H : Heap) (locs : List Loc) (lsr : Array Slot) (sr : List Value), HR s0 D σ h H → (∀ q ∈ locs, s0.heap.size ≤ q.base) → LR s0.heap.size σ ls nL lsr → SR s0.heap.size σ st sr → W p l e R s m args below meth c H locs cells slots Q (F0 m pc lsr sr)
theorem ix_in {n : Int32} {N : Nat} (h0 : 0 ≤ n.toInt) (h1 : n.toInt < (N : Int)) : ¬ (n < 0 ∨ N ≤ n.toNatClampNeg) ∧ n.toNatClampNeg < N ∧ ((n.toNatClampNeg : Nat) : Int) = n.toInt := by
  have e : n.toNatClampNeg = n.toInt.toNat := rfl
  have e2 : ((n.toNatClampNeg : Nat) : Int) = n.toInt := by rw [e]; exact Int.toNat_of_nonneg h0
  refine ⟨?_, by omega, e2⟩
  rintro (z | z)
  · rw [Int32.lt_iff_toInt_lt] at z
    have : (0 : Int32).toInt = 0 := rfl
    omega
  · omega
/-- an array's element is read -/
theorem sh_ald {ok : Nat → Bool} {t : Nat} (hal : s0.vm.Alike s.vm) (hok : ∀ x, ok x = true → 40 < x ∧ bc_act x = t)
    (row : ∀ (x q : Nat) (n : Int32) (cell : Cell) (v : Value) (rest : List Value), ok x = true → H[q]? = some cell → s.isArrayOf cell (bc_aty x) → cell.vm ≠ .unknown → ¬ (n < 0 ∨ cell.slots.size ≤ n.toNatClampNeg) → cell.slots[n.toNatClampNeg]? = some v → W p l e R s m args below meth c H locs cells slots Q (F0 m (pc + 1) lsr (v :: rest)) → W p l e R s m args below meth c H locs cells slots Q (F0 m pc lsr (.int n :: .ref q :: rest)))
    (hn : bc_ald pc ls h ok t st = some (.inl (pc', ls', st', h'))) (hh : HR s0 D σ h H) (hlo : ∀ q ∈ locs, s0.heap.size ≤ q.base) (hl : LR s0.heap.size σ ls nL lsr) (hs : SR s0.heap.size σ st sr) : h' = h ∧ (KH p l e R s m args below meth c Q s0 D σ nL h' cells slots pc' ls' st' → W p l e R s m args below meth c H locs cells slots Q (F0 m pc lsr sr)) := by
  unfold bc_ald at hn
  split at hn
  · rename_i i a r
    split at hn
    · rename_i hc
      obtain ⟨hc1, hc2, hc3⟩ := hc
      simp only [Option.some.injEq, Sum.inl.injEq, Prod.mk.injEq] at hn
      obtain ⟨rfl, rfl, rfl, rfl⟩ := hn
      obtain ⟨n, q1, rfl, rfl, hs2⟩ := hs.i
      obtain ⟨v1, q2, rfl, ev1, -, hs3⟩ := hs2.r
      obtain ⟨g1, g2⟩ := hok _ hc1
      obtain ⟨q, cell, a1, a2, a3, a3b, a4, a5, a6, a7, a8⟩ := (hh.2.2.2.1 a (by omega)).2 g1
      rw [a1] at ev1
      subst ev1
      rw [a6] at hc3
      obtain ⟨x1, x2, x3⟩ := ix_in hc2 hc3
      obtain ⟨v, b1, b2⟩ := a8 _ x2
      rw [x3, g2] at b2
      exact ⟨rfl, fun K => row _ q n cell v q2 hc1 a2 (State.isArrayOf_alike hal a3) a4 x1 b1 (K _ _ _ _ hh hlo hl ⟨b2, hs3⟩)⟩
    · cases hn
  · cases hn
theorem sh_alen (hx : p.tables.exec = Jvm.exec) (hb : c.code = cc) (hdg : decode cc pc = .ok (.arraylength, 1)) (hal : s0.vm.Alike s.vm) (hn : bc_alen pc ls h st = some (.inl (pc', ls', st', h'))) (hh : HR s0 D σ h H) (hlo : ∀ q ∈ locs, s0.heap.size ≤ q.base) (hl : LR s0.heap.size σ ls nL lsr) (hs : SR s0.heap.size σ st sr) : h' = h ∧ (KH p l e R s m args below meth c Q s0 D σ nL h' cells slots pc' ls' st' → W p l e R s m args below meth c H locs cells slots Q (F0 m pc lsr sr)) := by
  unfold bc_alen at hn
  split at hn
  · rename_i a r
    split at hn
    · rename_i hc
      simp only [Option.some.injEq, Sum.inl.injEq, Prod.mk.injEq] at hn
      obtain ⟨rfl, rfl, rfl, rfl⟩ := hn
      obtain ⟨v1, q2, rfl, ev1, -, hs3⟩ := hs.r
      obtain ⟨q, cell, a1, a2, a3, a3b, a4, a5, a6, a7, a8⟩ := (hh.2.2.2.1 a (by omega)).2 (by omega)
      rw [a1] at ev1
      subst ev1
      refine ⟨rfl, fun K => W.alen (n := cell.slots.size.toInt32) hx hb a2 (State.isArrayOf_alike hal a3) rfl rfl rfl hdg (K _ _ _ _ hh hlo hl ⟨⟨_, rfl, ?_⟩, hs3⟩)⟩
      rw [a6]
      exact nI_toInt a7
    · cases hn
  · cases hn
theorem setSlot_get {cell : Cell} {i j : Nat} {v : Value} (hi : i < cell.slots.size) : (cell.setSlot i v).slots[j]? = if j = i then some v else cell.slots[j]? := by
  unfold Cell.setSlot
  dsimp only
  rw [Array.getElem?_setIfInBounds]
  by_cases e : i = j
  · subst e
    rw [if_pos rfl, if_pos hi, if_pos rfl]
  · rw [if_neg e, if_neg (fun z => e z.symm)]
theorem setSlot_size {cell : Cell} {i : Nat} {v : Value} : (cell.setSlot i v).slots.size = cell.slots.size := by
  unfold Cell.setSlot
  simp
/-- an array of ints, longs or truths is written -/
theorem sh_ast {a : Nat} {n : Int32} {x : AV} {v : Value} {q2 : List Value} {r : List AV} {z : Int} (hσ : SpOk s0.heap.size σ) (hal : s0.vm.Alike s.vm) (hk : 101 ≤ hK h a) (hk2 : hK h a ≤ 104) (h0 : 0 ≤ n.toInt) (h1 : n.toInt < hL h a)
    (hv : VR s0.heap.size σ (if bc_act (hK h a) = 3 then vJ z else vI z) v)
    (row : ∀ (q : Nat) (cell : Cell), H[q]? = some cell → s.isArrayOf cell (bc_aty (hK h a)) → cell.vm ≠ .unknown → ¬ (n < 0 ∨ cell.slots.size ≤ n.toNatClampNeg) → rhoV s0.heap.size σ a = .ref q →
      (∀ H' : Heap, H'[q]? = some (cell.setSlot n.toNatClampNeg v) → H'.size = H.size → (∀ q1, q1 ≠ q → H'[q1]? = H[q1]?) → W p l e R s m args below meth c H' (locs ++ [⟨q, n.toNatClampNeg⟩]) cells slots Q (F0 m (pc + 1) lsr q2)) → W p l e R s m args below meth c H locs cells slots Q (F0 m pc lsr sr))
    (hh : HR s0 D σ h H) (hlo : ∀ q ∈ locs, s0.heap.size ≤ q.base) (hl : LR s0.heap.size σ ls nL lsr) (hs : SR s0.heap.size σ r q2) (K : KH p l e R s m args below meth c Q s0 D σ nL (sI h a n.toInt z) cells slots (pc + 1) ls r) : W p l e R s m args below meth c H locs cells slots Q (F0 m pc lsr sr) := by
  have ha : 16 ≤ a := hh.hi (by omega) (by omega) (by omega) (by omega) (by omega)
  obtain ⟨q, cell, a1, a2, a3, a3b, a4, a5, a6, a7, a8⟩ := (hh.2.2.2.1 a (by omega)).2 (by omega)
  have eq : q = s0.heap.size + (a - 16) := by rw [rho_hi ha] at a1; cases a1; rfl
  rw [a6] at h1
  obtain ⟨x1, x2, x3⟩ := ix_in h0 h1
  refine row q cell a2 (State.isArrayOf_alike hal a3) a4 x1 a1 (fun H' e1 e2 e3 => K _ _ _ _ ?_ ?_ hl hs)
  · refine hh.upd hσ ha rfl (fun _ => rfl) (fun _ => rfl) (fun b j hb => ?_) (fun b j hb => rfl) e2 (fun q1 hq1 => e3 q1 (by rw [eq]; exact hq1)) ⟨fun z1 => absurd z1 (by rw [show hK (sI h a n.toInt z) a = hK h a from rfl]; omega), fun _ => ?_⟩
    · show (if b = a ∧ j = n.toInt then z else gI h b j) = _
      rw [if_neg (fun w => hb w.1)]
    · refine ⟨q, cell.setSlot n.toNatClampNeg v, a1, e1, ?_, a3b, a4, a5, by rw [setSlot_size]; exact a6, by rw [setSlot_size]; exact a7, fun j hj => ?_⟩
      · exact a3
      · rw [setSlot_size] at hj
        rw [setSlot_get x2]
        by_cases ej : j = n.toNatClampNeg
        · subst ej
          refine ⟨v, by rw [if_pos rfl], ?_⟩
          rw [x3]
          have e5 : gI (sI h a n.toInt z) a n.toInt = z := by
            show (if a = a ∧ n.toInt = n.toInt then z else gI h a n.toInt) = _
            rw [if_pos ⟨rfl, rfl⟩]
          have e6 : bc_rd (sI h a n.toInt z) a n.toInt (bc_act (hK h a)) = if bc_act (hK h a) = 3 then vJ z else vI z := by
            have : hK h a = 101 ∨ hK h a = 102 ∨ hK h a = 103 ∨ hK h a = 104 := by omega
            rcases this with w | w | w | w <;> rw [w] <;> simp only [bc_act, bc_rd] <;> rw [e5] <;> rfl
          show VR _ _ (bc_rd (sI h a n.toInt z) a n.toInt (bc_act (hK h a))) v
          rw [e6]
          exact hv
        · obtain ⟨w, b1, b2⟩ := a8 j hj
          refine ⟨w, by rw [if_neg ej]; exact b1, ?_⟩
          have e5 : gI (sI h a n.toInt z) a (j : Int) = gI h a (j : Int) := by
            show (if a = a ∧ (j : Int) = n.toInt then z else gI h a (j : Int)) = _
            rw [if_neg (fun w => ej (by omega))]
          have e6 : bc_rd (sI h a n.toInt z) a (j : Int) (bc_act (hK h a)) = bc_rd h a (j : Int) (bc_act (hK h a)) := by
            unfold bc_rd
            split
            · rw [e5]
            · rfl
            · rw [e5]
          show VR _ _ (bc_rd (sI h a n.toInt z) a (j : Int) (bc_act (hK h a))) w
          rw [e6]
          exact b2
  · intro q1 hq1
    rcases List.mem_append.mp hq1 with z1 | z1
    · exact hlo q1 z1
    · rw [List.mem_singleton] at z1
      subst z1
      show s0.heap.size ≤ q
      omega
end SA
