/-! ===== THE ARRAYS' INSTRUCTIONS ===== -/
theorem same3 {h h' : AH} {P : Prop} (X : h' = h ∧ P) : hN h' = hN h ∧ hU h' = hU h ∧ P := by
  obtain ⟨rfl, K⟩ := X
  exact ⟨rfl, rfl, K⟩
section SC
variable {p : Program} {l : Launch} {e : Env} {R : Room} {s : State} {m : MethodId} {args : Array Value} {below : List Frame} {meth : Method} {c : Code} {H : Heap} {locs : List Loc} {cells slots : Nat} {Q : State → Prop} {s0 : State} {D : va_G} {σ : Nat → Value} {nL : Nat}
variable {cc : ByteArray} {pc len pc' k : Nat} {ls ls' st st' : List AV} {h h' : AH} {lsr : Array Slot} {sr : List Value}
theorem si_iald (hσ : SpOk s0.heap.size σ) (hal : s0.vm.Alike s.vm) (hx : p.tables.exec = Jvm.exec) (hb : c.code = cc) (hdg : decode cc pc = .ok (.iaload, 1)) (hn : bc_ald pc ls h (fun c => c == 101 || c == 107) 0 st = some (.inl (pc', ls', st', h'))) (hh : HR s0 D σ h H) (hlo : ∀ q ∈ locs, s0.heap.size ≤ q.base) (hl : LR s0.heap.size σ ls nL lsr) (hs : SR s0.heap.size σ st sr) : hN h' = hN h ∧ hU h' = hU h ∧ (KH p l e R s m args below meth c Q s0 D σ nL h' cells slots pc' ls' st' → W p l e R s m args below meth c H locs cells slots Q (F0 m pc lsr sr)) := by
  refine same3 (sh_ald (cells := cells) (slots := slots) (Q := Q) (D := D) hal (ok := fun c => c == 101 || c == 107) (t := 0) ?_ (fun x q n cell v rest hok h1 h2 h3 h4 h5 kk => ?_) hn hh hlo hl hs)
  · intro x hx1
    have : x = 101 ∨ x = 107 := by simpa using hx1
    rcases this with rfl | rfl <;> exact ⟨by decide, rfl⟩
  · have : x = 101 ∨ x = 107 := by simpa using hok
    rcases this with rfl | rfl
    · exact W.iald hx hb h1 h2 h3 h4 h5 rfl rfl hdg kk
    · exact W.iald hx hb h1 h2 h3 h4 h5 rfl rfl hdg kk
theorem si_lald (hσ : SpOk s0.heap.size σ) (hal : s0.vm.Alike s.vm) (hx : p.tables.exec = Jvm.exec) (hb : c.code = cc) (hdg : decode cc pc = .ok (.laload, 1)) (hn : bc_ald pc ls h (fun c => c == 102) 3 st = some (.inl (pc', ls', st', h'))) (hh : HR s0 D σ h H) (hlo : ∀ q ∈ locs, s0.heap.size ≤ q.base) (hl : LR s0.heap.size σ ls nL lsr) (hs : SR s0.heap.size σ st sr) : hN h' = hN h ∧ hU h' = hU h ∧ (KH p l e R s m args below meth c Q s0 D σ nL h' cells slots pc' ls' st' → W p l e R s m args below meth c H locs cells slots Q (F0 m pc lsr sr)) := by
  refine same3 (sh_ald (cells := cells) (slots := slots) (Q := Q) (D := D) hal (ok := fun c => c == 102) (t := 3) ?_ (fun x q n cell v rest hok h1 h2 h3 h4 h5 kk => ?_) hn hh hlo hl hs)
  · intro x hx1
    have : x = 102 := by simpa using hx1
    rcases this with rfl <;> exact ⟨by decide, rfl⟩
  · have : x = 102 := by simpa using hok
    rcases this with rfl
    · exact W.lald hx hb h1 h2 h3 h4 h5 rfl rfl hdg kk
theorem si_bald (hσ : SpOk s0.heap.size σ) (hal : s0.vm.Alike s.vm) (hx : p.tables.exec = Jvm.exec) (hb : c.code = cc) (hdg : decode cc pc = .ok (.baload, 1)) (hn : bc_ald pc ls h (fun c => c == 103 || c == 104 || c == 108) 0 st = some (.inl (pc', ls', st', h'))) (hh : HR s0 D σ h H) (hlo : ∀ q ∈ locs, s0.heap.size ≤ q.base) (hl : LR s0.heap.size σ ls nL lsr) (hs : SR s0.heap.size σ st sr) : hN h' = hN h ∧ hU h' = hU h ∧ (KH p l e R s m args below meth c Q s0 D σ nL h' cells slots pc' ls' st' → W p l e R s m args below meth c H locs cells slots Q (F0 m pc lsr sr)) := by
  refine same3 (sh_ald (cells := cells) (slots := slots) (Q := Q) (D := D) hal (ok := fun c => c == 103 || c == 104 || c == 108) (t := 0) ?_ (fun x q n cell v rest hok h1 h2 h3 h4 h5 kk => ?_) hn hh hlo hl hs)
  · intro x hx1
    have : x = 103 ∨ x = 104 ∨ x = 108 := by simpa [or_assoc] using hx1
    rcases this with rfl | rfl | rfl <;> exact ⟨by decide, rfl⟩
  · have : x = 103 ∨ x = 104 ∨ x = 108 := by simpa [or_assoc] using hok
    rcases this with rfl | rfl | rfl
    · exact W.bald hx hb h1 h2 h3 h4 h5 rfl rfl hdg kk
    · exact W.zald hx hb h1 h2 h3 h4 h5 rfl rfl hdg kk
    · exact W.bald hx hb h1 h2 h3 h4 h5 rfl rfl hdg kk
theorem si_aald (hσ : SpOk s0.heap.size σ) (hal : s0.vm.Alike s.vm) (hx : p.tables.exec = Jvm.exec) (hb : c.code = cc) (hdg : decode cc pc = .ok (.aaload, 1)) (hn : bc_ald pc ls h (fun c => c == 105 || c == 106) 4 st = some (.inl (pc', ls', st', h'))) (hh : HR s0 D σ h H) (hlo : ∀ q ∈ locs, s0.heap.size ≤ q.base) (hl : LR s0.heap.size σ ls nL lsr) (hs : SR s0.heap.size σ st sr) : hN h' = hN h ∧ hU h' = hU h ∧ (KH p l e R s m args below meth c Q s0 D σ nL h' cells slots pc' ls' st' → W p l e R s m args below meth c H locs cells slots Q (F0 m pc lsr sr)) := by
  refine same3 (sh_ald (cells := cells) (slots := slots) (Q := Q) (D := D) hal (ok := fun c => c == 105 || c == 106) (t := 4) ?_ (fun x q n cell v rest hok h1 h2 h3 h4 h5 kk => ?_) hn hh hlo hl hs)
  · intro x hx1
    have : x = 105 ∨ x = 106 := by simpa using hx1
    rcases this with rfl | rfl <;> exact ⟨by decide, rfl⟩
  · have : x = 105 ∨ x = 106 := by simpa using hok
    rcases this with rfl | rfl
    · exact W.aald hx hb h1 h2 rfl h3 h4 h5 rfl rfl hdg kk
    · exact W.aald hx hb h1 h2 rfl h3 h4 h5 rfl rfl hdg kk
theorem si_alen (hσ : SpOk s0.heap.size σ) (hal : s0.vm.Alike s.vm) (hx : p.tables.exec = Jvm.exec) (hb : c.code = cc) (hdg : decode cc pc = .ok (.arraylength, 1)) (hn : bc_alen pc ls h st = some (.inl (pc', ls', st', h'))) (hh : HR s0 D σ h H) (hlo : ∀ q ∈ locs, s0.heap.size ≤ q.base) (hl : LR s0.heap.size σ ls nL lsr) (hs : SR s0.heap.size σ st sr) : hN h' = hN h ∧ hU h' = hU h ∧ (KH p l e R s m args below meth c Q s0 D σ nL h' cells slots pc' ls' st' → W p l e R s m args below meth c H locs cells slots Q (F0 m pc lsr sr)) := by
  exact same3 (sh_alen (cells := cells) (slots := slots) (Q := Q) (D := D) hx hb hdg hal hn hh hlo hl hs)
theorem si_iast (hσ : SpOk s0.heap.size σ) (hal : s0.vm.Alike s.vm) (hx : p.tables.exec = Jvm.exec) (hb : c.code = cc) (hdg : decode cc pc = .ok (.iastore, 1)) (hn : bc_iast pc ls h st = some (.inl (pc', ls', st', h'))) (hh : HR s0 D σ h H) (hlo : ∀ q ∈ locs, s0.heap.size ≤ q.base) (hl : LR s0.heap.size σ ls nL lsr) (hs : SR s0.heap.size σ st sr) : hN h' = hN h ∧ hU h' = hU h ∧ (KH p l e R s m args below meth c Q s0 D σ nL h' cells slots pc' ls' st' → W p l e R s m args below meth c H locs cells slots Q (F0 m pc lsr sr)) := by
  unfold bc_iast at hn
  split at hn
  · rename_i z i a r
    split at hn
    · rename_i hc
      obtain ⟨k1, k2, k3⟩ := hc
      simp only [Option.some.injEq, Sum.inl.injEq, Prod.mk.injEq] at hn
      obtain ⟨rfl, rfl, rfl, rfl⟩ := hn
      obtain ⟨x, q1, rfl, rfl, hs2⟩ := hs.i
      obtain ⟨n, q2, rfl, rfl, hs3⟩ := hs2.i
      obtain ⟨v1, q3, rfl, ev1, -, hs4⟩ := hs3.r
      refine ⟨rfl, rfl, fun K => sh_ast (x := vX) (v := .int x) hσ hal (by omega) (by omega) k2 k3 (by rw [k1]; exact ⟨_, rfl, rfl⟩) (fun q cell h1 h2 h3 h4 h5 kk => ?_) hh hlo hl hs4 K⟩
      rw [h5] at ev1
      subst ev1
      rw [k1] at h2
      exact W.iast hx hb h1 h2 h3 h4 rfl rfl hdg kk
    · cases hn
  · cases hn
theorem si_jast (hσ : SpOk s0.heap.size σ) (hal : s0.vm.Alike s.vm) (hx : p.tables.exec = Jvm.exec) (hb : c.code = cc) (hdg : decode cc pc = .ok (.lastore, 1)) (hn : bc_jast pc ls h st = some (.inl (pc', ls', st', h'))) (hh : HR s0 D σ h H) (hlo : ∀ q ∈ locs, s0.heap.size ≤ q.base) (hl : LR s0.heap.size σ ls nL lsr) (hs : SR s0.heap.size σ st sr) : hN h' = hN h ∧ hU h' = hU h ∧ (KH p l e R s m args below meth c Q s0 D σ nL h' cells slots pc' ls' st' → W p l e R s m args below meth c H locs cells slots Q (F0 m pc lsr sr)) := by
  unfold bc_jast at hn
  split at hn
  · rename_i z i a r
    split at hn
    · rename_i hc
      obtain ⟨k1, k2, k3⟩ := hc
      simp only [Option.some.injEq, Sum.inl.injEq, Prod.mk.injEq] at hn
      obtain ⟨rfl, rfl, rfl, rfl⟩ := hn
      obtain ⟨x, q1, rfl, rfl, hs2⟩ := hs.j
      obtain ⟨n, q2, rfl, rfl, hs3⟩ := hs2.i
      obtain ⟨v1, q3, rfl, ev1, -, hs4⟩ := hs3.r
      refine ⟨rfl, rfl, fun K => sh_ast (x := vX) (v := .long x) hσ hal (by omega) (by omega) k2 k3 (by rw [k1]; exact ⟨_, rfl, rfl⟩) (fun q cell h1 h2 h3 h4 h5 kk => ?_) hh hlo hl hs4 K⟩
      rw [h5] at ev1
      subst ev1
      rw [k1] at h2
      exact W.last hx hb h1 h2 h3 h4 rfl rfl hdg kk
    · cases hn
  · cases hn
theorem b01_narrow {x : Int32} (hz : x.toInt = 0 ∨ x.toInt = 1) : narrow .boolean (.int x) = .int x := by
  have : x = 0 ∨ x = 1 := by
    rcases hz with z | z
    · exact Or.inl (Int32.toInt_inj.mp (z.trans rfl))
    · exact Or.inr (Int32.toInt_inj.mp (z.trans rfl))
  rcases this with rfl | rfl <;> rfl
theorem si_bast (hσ : SpOk s0.heap.size σ) (hal : s0.vm.Alike s.vm) (hx : p.tables.exec = Jvm.exec) (hb : c.code = cc) (hdg : decode cc pc = .ok (.bastore, 1)) (hn : bc_bast pc ls h st = some (.inl (pc', ls', st', h'))) (hh : HR s0 D σ h H) (hlo : ∀ q ∈ locs, s0.heap.size ≤ q.base) (hl : LR s0.heap.size σ ls nL lsr) (hs : SR s0.heap.size σ st sr) : hN h' = hN h ∧ hU h' = hU h ∧ (KH p l e R s m args below meth c Q s0 D σ nL h' cells slots pc' ls' st' → W p l e R s m args below meth c H locs cells slots Q (F0 m pc lsr sr)) := by
  unfold bc_bast at hn
  split at hn
  · rename_i z i a r
    split at hn
    · rename_i hc
      obtain ⟨k1, k2, k3⟩ := hc
      simp only [Option.some.injEq, Sum.inl.injEq, Prod.mk.injEq] at hn
      obtain ⟨rfl, rfl, rfl, rfl⟩ := hn
      obtain ⟨x, q1, rfl, rfl, hs2⟩ := hs.i
      obtain ⟨n, q2, rfl, rfl, hs3⟩ := hs2.i
      obtain ⟨v1, q3, rfl, ev1, -, hs4⟩ := hs3.r
      refine ⟨rfl, rfl, fun K => sh_ast (x := vX) (v := .int x.toInt8.toInt32) hσ hal (by omega) (by omega) k2 k3 (by rw [k1]; exact ⟨_, rfl, by unfold i2bZ; rw [t32]⟩) (fun q cell h1 h2 h3 h4 h5 kk => ?_) hh hlo hl hs4 K⟩
      rw [h5] at ev1
      subst ev1
      rw [k1] at h2
      exact W.bast hx hb h1 h2 h3 h4 rfl rfl hdg kk
    · split at hn
      · rename_i hc
        obtain ⟨k1, k2, k3, k4⟩ := hc
        simp only [Option.some.injEq, Sum.inl.injEq, Prod.mk.injEq] at hn
        obtain ⟨rfl, rfl, rfl, rfl⟩ := hn
        obtain ⟨x, q1, rfl, rfl, hs2⟩ := hs.i
        obtain ⟨n, q2, rfl, rfl, hs3⟩ := hs2.i
        obtain ⟨v1, q3, rfl, ev1, -, hs4⟩ := hs3.r
        refine ⟨rfl, rfl, fun K => sh_ast (x := vX) (v := .int x) hσ hal (by omega) (by omega) k2 k3 (by rw [k1]; exact ⟨_, rfl, rfl⟩) (fun q cell h1 h2 h3 h4 h5 kk => ?_) hh hlo hl hs4 K⟩
        rw [h5] at ev1
        subst ev1
        rw [k1] at h2
        refine W.zast hx hb h1 h2 h3 h4 rfl rfl hdg ?_
        rw [b01_narrow k4]
        exact kk
      · cases hn
  · cases hn
/-- a new array's cell -/
theorem AR_new {cA : ClassId} {ty0 : Nat} {n : Int} {N u : Nat} {dv : Value} (hA : ∀ slots : Array Value, s0.isArrayOf { cls := cA, slots := slots, vm := .none } (bc_aty ty0)) (hRA : va_RA s0 cA (bc_aty ty0)) (hNn : n = (N : Int)) (hN2 : N < 2 ^ 31) (hv : VR s0.heap.size σ (match bc_act ty0 with | 3 => vJ 0 | 4 => vR 0 | _ => vI 0) dv) (hh : HR s0 D σ h H) (h40 : 40 < ty0) :
    CR s0 D s0.heap.size σ (nw h ty0 n u) (H.push { cls := cA, slots := Array.replicate N dv, vm := .none }) (hN h) := by
  have eK : hK (nw h ty0 n u) (hN h) = ty0 := by
    show (if h.1 = h.1 then ty0 else _) = ty0
    rw [if_pos rfl]
  unfold CR
  rw [eK]
  refine ⟨fun z => absurd z (by omega), fun _ => ?_⟩
  have h16 := hh.1
  refine ⟨H.size, { cls := cA, slots := Array.replicate N dv, vm := .none }, ?_, ?_, hA _, hRA, (fun z => by cases z), (fun _ z => by cases z), ?_, ?_, fun j hj => ?_⟩
  · rw [rho_hi h16]
    have := hh.2.1
    have e9 : s0.heap.size + (hN h - 16) = H.size := by omega
    rw [e9]
  · rw [Array.getElem?_push, if_pos rfl]
  · show (if h.1 = h.1 then n else _) = _
    rw [if_pos rfl, hNn]
    simp
  · simpa using hN2
  · have hj : j < N := by simpa using hj
    refine ⟨dv, by simp [hj], ?_⟩
    have eI : gI (nw h ty0 n u) (hN h) (j : Int) = 0 := by
      show (if h.1 = h.1 then (0 : Int) else _) = 0
      rw [if_pos rfl]
    have eR : gR (nw h ty0 n u) (hN h) (j : Int) = 0 := by
      show (if h.1 = h.1 then (0 : Nat) else _) = 0
      rw [if_pos rfl]
    have e6 : bc_rd (nw h ty0 n u) (hN h) (j : Int) (bc_act ty0) = (match bc_act ty0 with | 3 => vJ 0 | 4 => vR 0 | _ => vI 0) := by
      generalize bc_act ty0 = t
      match t with
      | 3 => show vJ (gI (nw h ty0 n u) (hN h) (j : Int)) = _; rw [eI]; rfl
      | 4 => show vR (gR (nw h ty0 n u) (hN h) (j : Int)) = _; rw [eR]; rfl
      | 0 => show vI (gI (nw h ty0 n u) (hN h) (j : Int)) = _; rw [eI]; rfl
      | 1 => show vI (gI (nw h ty0 n u) (hN h) (j : Int)) = _; rw [eI]; rfl
      | 2 => show vI (gI (nw h ty0 n u) (hN h) (j : Int)) = _; rw [eI]; rfl
      | x + 5 => show vI (gI (nw h ty0 n u) (hN h) (j : Int)) = _; rw [eI]; rfl
    rw [e6]
    exact hv
end SC
