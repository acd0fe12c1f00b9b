/-! ===== A CALL, WHATEVER ITS OUTCOME, IN THE WALK ===== -/
/-- a machine that has thrown q over the frame g comes to Q -/
def WT (p : Program) (l : Launch) (e : Env) (R : Room) (s : State) (m : MethodId) (args : Array Value) (below : List Frame) (meth : Method) (c : Code) (H : Heap) (locs : List Loc) (cells slots : Nat) (Q : State → Prop) (g : JFrame) (q : Addr) : Prop :=
  ∀ T : State, T.heap = H → Stand p l e R s m args below meth c T locs cells slots → ∃ t, Steps p.tables e below ((T.setTop g).pushFrame (.throwing q)) t ∧ Q t
section SCW
variable {p : Program} {l : Launch} {e : Env} {R : Room} {s : State} {m : MethodId} {args : Array Value} {below : List Frame} {meth : Method} {c : Code} {H : Heap} {locs : List Loc} {cells slots : Nat} {Q : State → Prop}
theorem W_callT {y : MethodName} {bytes : ByteArray} {maxL : Nat} {ret : Option FieldType} {rm : Room} {Pc : Array Value → State → Prop} {Qc : Array Value → State → Outcome → State → Prop} {mc ms : Nat} {free : Addr → Prop} {w : Cond} {as rest : List Value} {g : JFrame} {ig : Instr} {len : Nat}
    (hM : MetT l y [w] rm Pc Qc mc ms free) (hrc : rm.cells = mc) (hrs : rm.slots = ms) (hframes : rm.frames + 1 ≤ R.frames) (hlocals : 8 + (maxL + 11) + rm.locals ≤ R.locals)
    (hinv : ∀ T : State, T.heap = H → Stand p l e R s m args below meth c T locs cells slots → InvStep p l e R s m args below meth c T locs cells slots g rest y as)
    (hg : g.method = m) (hsize : g.locals.size = c.maxLocals) (hdg : decode c.code g.pc = .ok (ig, len)) (hW : 2 * g.monitorRoom + (rest.map fun v => v.category).sum ≤ 8)
    (hw : ∀ (a : Array Value) (U : State), s.WarmedH U.vm → w.before a U = true) (hmax : ∀ (U : State) (mk : MethodId), s.WarmedH U.vm → U.methodNamed? y = some mk → ∃ (methY : Method) (cY : Code), U.vm.method? mk = some methY ∧ methY.code = some cY ∧ cY.maxLocals = maxL)
    (hini : ∀ (a : Array Value) (U : State), s.WarmedH U.vm → (Cond.initialized y.cls).before a U = true) (hc0 : cells + mc ≤ R.cells) (hs0 : slots + ms ≤ R.slots) (hP : ∀ U : State, U.heap = H → s.WarmedH U.vm → ∀ (g : JFrame) (mk : MethodId), Pc as.toArray (U.calling g mk as.toArray))
    (kk : ∀ (o : Outcome) (t : State) (H' : Heap) (L : List Loc) (st₀ : State), st₀.heap = H → t.heap = H' → s.WarmedH t.vm → (∀ q ∈ L, free q.base) → Qc as.toArray st₀ o t →
      match o with
      | .returned v => W p l e R s m args below meth c H' (locs ++ L) (cells + mc) (slots + ms) Q { g with pc := g.pc + len, stack := v.toList ++ rest }
      | .threw x => WT p l e R s m args below meth c H' (locs ++ L) (cells + mc) (slots + ms) Q { g with stack := rest } x) : W p l e R s m args below meth c H locs cells slots Q g := by
  intro T hT X
  obtain ⟨vm₁, mk, X₁, hnm, hstep⟩ := hinv T hT X
  have hW1 : s.WarmedH (T.setVm vm₁).vm := X₁.warmed
  obtain ⟨o, t, U', L, st₀, e0, X', hL, e1, e2, hq, hst⟩ := callT (maxL := maxL) hM hrc hrs hframes hlocals X₁ (g := { g with stack := rest }) (a := as.toArray) hg hsize hdg hW hnm
    (fun w' hw' => by rw [List.mem_singleton] at hw'; subst hw'; exact hw _ _ hW1) (hmax _ _ hW1 hnm) (hini _ _ hW1) hc0 hs0 (fun g' mk' => hP (T.setVm vm₁) hT hW1 g' mk')
  have hWt : s.WarmedH t.vm := by rw [← e2]; exact X'.warmed
  have k := kk o t U'.heap L st₀ (e0.trans hT) e1.symm hWt hL hq
  cases o with
  | returned v =>
    obtain ⟨t2, a1, b1⟩ := k U' rfl X'
    exact ⟨t2, hstep t2 (hst.trans a1), b1⟩
  | threw x =>
    obtain ⟨t2, a1, b1⟩ := k U' rfl X'
    exact ⟨t2, hstep t2 (hst.trans a1), b1⟩
/-- the instruction athrow -/
theorem W_athrow {cc : ByteArray} (hx : p.tables.exec = Jvm.exec) (hb : c.code = cc) {pc : Nat} {lsr : Array Slot} {q : Addr} {rest : List Value} (hdg : decode cc pc = .ok (.athrow, 1)) (kk : WT p l e R s m args below meth c H locs cells slots Q (F0 m pc lsr rest) q) : W p l e R s m args below meth c H locs cells slots Q (F0 m pc lsr (.ref q :: rest)) := by
  intro T hT X
  obtain ⟨t, a, b⟩ := kk T hT X
  refine ⟨t, ?_, b⟩
  jvm_step X.here [X.here.top, hx, hb, hdg, Op.athrow.wp_sem]
  exact a
/-- a throw that no handler of the method hears leaves it -/
theorem WT_leave {g : JFrame} {q : Addr} {Qc : Array Value → State → Outcome → State → Prop} {free : Addr → Prop} (hg : g.method = m) (hlk : g.locked = none) (hen : g.entered = []) (hout : ∀ x ∈ c.exceptionTable.toList, covers x g.pc = false) (hlocks : meth.locks = false)
    (hq : ∀ t : State, t.heap = H → s.WarmedH t.vm → Qc args s (.threw q) t) (hf : ∀ z ∈ locs, free z.base) : WT p l e R s m args below meth c H locs cells slots (fun t => ∃ o, t.status = .running ∧ Ended t below o ∧ Qc args s o t ∧ ∃ L, EndT s t L cells slots ∧ ∀ z ∈ L, free z.base) g q := by
  intro T hT X
  obtain ⟨h1, h2, h3, h4, h5⟩ := X.leaveThrown q (g := g) hg hlk hen hout hlocks
  exact ⟨_, h1, .threw q, h2, h3, hq _ hT h4, locs, ⟨h4, h5⟩, hf⟩
/-- a throw that a handler hears -/
theorem WT_catch {g : JFrame} {q : Addr} {pt : Nat} (hg : g.method = m) (hfind : ∀ T : State, T.heap = H → Stand p l e R s m args below meth c T locs cells slots → Finds e ((T.setTop g).pushFrame (.throwing q)) g q (.found pt)) (kk : W p l e R s m args below meth c H locs cells slots Q { g with pc := pt, stack := [.ref q] }) : WT p l e R s m args below meth c H locs cells slots Q g q := by
  intro T hT X
  obtain ⟨t, a, b⟩ := kk T hT X
  exact ⟨t, X.catchAt q hg (hfind T hT X) a, b⟩
end SCW
