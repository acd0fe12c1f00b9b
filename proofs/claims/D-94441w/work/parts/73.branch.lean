section SB
variable {p : Program} {l : Launch} {e : Env} {R : Room} {s : State} {m : MethodId} {args : Array Value} {below : List Frame} {meth : Method} {c : Code} {H : Heap} {locs : List Loc} {cells slots : Nat} {Q : State → Prop}
variable {cc : ByteArray} {pc : Nat} {ls : Array Slot} {rest : List Value}
theorem lv_icmpN_eq (hexec : p.tables.exec = Jvm.exec) (hb : c.code = cc) {x y : Int32} {off : Int} (hdg : decode cc pc = .ok (.if_icmp .eq off, 3)) (hc : ¬ (x = y)) (kf : W p l e R s m args below meth c H locs cells slots Q (F0 m (pc + 3) ls rest)) : W p l e R s m args below meth c H locs cells slots Q (F0 m pc ls (.int y :: .int x :: rest)) := by
  intro T hT X
  obtain ⟨t, a, b⟩ := kf T hT X
  refine ⟨t, ?_, b⟩
  jvm_step X.here [X.here.top, hexec, hb, hdg, Op.if_icmp.holds, hc]
  exact a
theorem lv_icmpN_ne (hexec : p.tables.exec = Jvm.exec) (hb : c.code = cc) {x y : Int32} {off : Int} (hdg : decode cc pc = .ok (.if_icmp .ne off, 3)) (hc : ¬ (¬ x = y)) (kf : W p l e R s m args below meth c H locs cells slots Q (F0 m (pc + 3) ls rest)) : W p l e R s m args below meth c H locs cells slots Q (F0 m pc ls (.int y :: .int x :: rest)) := by
  intro T hT X
  obtain ⟨t, a, b⟩ := kf T hT X
  refine ⟨t, ?_, b⟩
  have hc := Classical.not_not.mp hc
  jvm_step X.here [X.here.top, hexec, hb, hdg, Op.if_icmp.holds, hc]
  exact a
theorem lv_icmpN_lt (hexec : p.tables.exec = Jvm.exec) (hb : c.code = cc) {x y : Int32} {off : Int} (hdg : decode cc pc = .ok (.if_icmp .lt off, 3)) (hc : ¬ (x < y)) (kf : W p l e R s m args below meth c H locs cells slots Q (F0 m (pc + 3) ls rest)) : W p l e R s m args below meth c H locs cells slots Q (F0 m pc ls (.int y :: .int x :: rest)) := by
  intro T hT X
  obtain ⟨t, a, b⟩ := kf T hT X
  refine ⟨t, ?_, b⟩
  jvm_step X.here [X.here.top, hexec, hb, hdg, Op.if_icmp.holds, hc]
  exact a
theorem lv_icmpN_ge (hexec : p.tables.exec = Jvm.exec) (hb : c.code = cc) {x y : Int32} {off : Int} (hdg : decode cc pc = .ok (.if_icmp .ge off, 3)) (hc : ¬ (y ≤ x)) (kf : W p l e R s m args below meth c H locs cells slots Q (F0 m (pc + 3) ls rest)) : W p l e R s m args below meth c H locs cells slots Q (F0 m pc ls (.int y :: .int x :: rest)) := by
  intro T hT X
  obtain ⟨t, a, b⟩ := kf T hT X
  refine ⟨t, ?_, b⟩
  jvm_step X.here [X.here.top, hexec, hb, hdg, Op.if_icmp.holds, hc]
  exact a
theorem lv_icmpN_gt (hexec : p.tables.exec = Jvm.exec) (hb : c.code = cc) {x y : Int32} {off : Int} (hdg : decode cc pc = .ok (.if_icmp .gt off, 3)) (hc : ¬ (y < x)) (kf : W p l e R s m args below meth c H locs cells slots Q (F0 m (pc + 3) ls rest)) : W p l e R s m args below meth c H locs cells slots Q (F0 m pc ls (.int y :: .int x :: rest)) := by
  intro T hT X
  obtain ⟨t, a, b⟩ := kf T hT X
  refine ⟨t, ?_, b⟩
  jvm_step X.here [X.here.top, hexec, hb, hdg, Op.if_icmp.holds, hc]
  exact a
theorem lv_icmpN_le (hexec : p.tables.exec = Jvm.exec) (hb : c.code = cc) {x y : Int32} {off : Int} (hdg : decode cc pc = .ok (.if_icmp .le off, 3)) (hc : ¬ (x ≤ y)) (kf : W p l e R s m args below meth c H locs cells slots Q (F0 m (pc + 3) ls rest)) : W p l e R s m args below meth c H locs cells slots Q (F0 m pc ls (.int y :: .int x :: rest)) := by
  intro T hT X
  obtain ⟨t, a, b⟩ := kf T hT X
  refine ⟨t, ?_, b⟩
  jvm_step X.here [X.here.top, hexec, hb, hdg, Op.if_icmp.holds, hc]
  exact a
theorem lv_ifN_eq (hexec : p.tables.exec = Jvm.exec) (hb : c.code = cc) {x : Int32} {off : Int} (hdg : decode cc pc = .ok (.ifCond .eq off, 3)) (hc : ¬ (x = (0 : Int32))) (kf : W p l e R s m args below meth c H locs cells slots Q (F0 m (pc + 3) ls rest)) : W p l e R s m args below meth c H locs cells slots Q (F0 m pc ls (.int x :: rest)) := by
  intro T hT X
  obtain ⟨t, a, b⟩ := kf T hT X
  refine ⟨t, ?_, b⟩
  jvm_step X.here [X.here.top, hexec, hb, hdg, Op.ifCond.holds, hc]
  exact a
theorem lv_ifN_ne (hexec : p.tables.exec = Jvm.exec) (hb : c.code = cc) {x : Int32} {off : Int} (hdg : decode cc pc = .ok (.ifCond .ne off, 3)) (hc : ¬ (¬ x = (0 : Int32))) (kf : W p l e R s m args below meth c H locs cells slots Q (F0 m (pc + 3) ls rest)) : W p l e R s m args below meth c H locs cells slots Q (F0 m pc ls (.int x :: rest)) := by
  intro T hT X
  obtain ⟨t, a, b⟩ := kf T hT X
  refine ⟨t, ?_, b⟩
  have hc := Classical.not_not.mp hc
  jvm_step X.here [X.here.top, hexec, hb, hdg, Op.ifCond.holds, hc]
  exact a
theorem lv_ifN_lt (hexec : p.tables.exec = Jvm.exec) (hb : c.code = cc) {x : Int32} {off : Int} (hdg : decode cc pc = .ok (.ifCond .lt off, 3)) (hc : ¬ (x < (0 : Int32))) (kf : W p l e R s m args below meth c H locs cells slots Q (F0 m (pc + 3) ls rest)) : W p l e R s m args below meth c H locs cells slots Q (F0 m pc ls (.int x :: rest)) := by
  intro T hT X
  obtain ⟨t, a, b⟩ := kf T hT X
  refine ⟨t, ?_, b⟩
  jvm_step X.here [X.here.top, hexec, hb, hdg, Op.ifCond.holds, hc]
  exact a
theorem lv_ifN_ge (hexec : p.tables.exec = Jvm.exec) (hb : c.code = cc) {x : Int32} {off : Int} (hdg : decode cc pc = .ok (.ifCond .ge off, 3)) (hc : ¬ ((0 : Int32) ≤ x)) (kf : W p l e R s m args below meth c H locs cells slots Q (F0 m (pc + 3) ls rest)) : W p l e R s m args below meth c H locs cells slots Q (F0 m pc ls (.int x :: rest)) := by
  intro T hT X
  obtain ⟨t, a, b⟩ := kf T hT X
  refine ⟨t, ?_, b⟩
  jvm_step X.here [X.here.top, hexec, hb, hdg, Op.ifCond.holds, hc]
  exact a
theorem lv_ifN_gt (hexec : p.tables.exec = Jvm.exec) (hb : c.code = cc) {x : Int32} {off : Int} (hdg : decode cc pc = .ok (.ifCond .gt off, 3)) (hc : ¬ ((0 : Int32) < x)) (kf : W p l e R s m args below meth c H locs cells slots Q (F0 m (pc + 3) ls rest)) : W p l e R s m args below meth c H locs cells slots Q (F0 m pc ls (.int x :: rest)) := by
  intro T hT X
  obtain ⟨t, a, b⟩ := kf T hT X
  refine ⟨t, ?_, b⟩
  jvm_step X.here [X.here.top, hexec, hb, hdg, Op.ifCond.holds, hc]
  exact a
theorem lv_ifN_le (hexec : p.tables.exec = Jvm.exec) (hb : c.code = cc) {x : Int32} {off : Int} (hdg : decode cc pc = .ok (.ifCond .le off, 3)) (hc : ¬ (x ≤ (0 : Int32))) (kf : W p l e R s m args below meth c H locs cells slots Q (F0 m (pc + 3) ls rest)) : W p l e R s m args below meth c H locs cells slots Q (F0 m pc ls (.int x :: rest)) := by
  intro T hT X
  obtain ⟨t, a, b⟩ := kf T hT X
  refine ⟨t, ?_, b⟩
  jvm_step X.here [X.here.top, hexec, hb, hdg, Op.ifCond.holds, hc]
  exact a
end SB
section SN
variable {p : Program} {l : Launch} {e : Env} {R : Room} {s : State} {m : MethodId} {args : Array Value} {below : List Frame} {meth : Method} {c : Code} {H : Heap} {locs : List Loc} {cells slots : Nat} {Q : State → Prop} {B : Nat} {σ : Nat → Value} {nL : Nat}
variable {cc : ByteArray} {pc len pc' k : Nat} {ls ls' st st' : List AV} {h h' : AH} {lsr : Array Slot} {sr : List Value}
theorem bc_jmp_inv {off : Int} (e : bc_jmp pc off ls st h = some (.inl (pc', ls', st', h'))) : (pc : Int) + off = (pc' : Int) ∧ ls' = ls ∧ st' = st ∧ h' = h := by
  unfold bc_jmp at e
  split at e
  · rename_i hp
    simp only [Option.some.injEq, Sum.inl.injEq, Prod.mk.injEq] at e
    obtain ⟨rfl, rfl, rfl, rfl⟩ := e
    exact ⟨(Int.toNat_of_nonneg hp).symm, rfl, rfl, rfl⟩
  · cases e
theorem sm_br {b : Bool} {off : Int} {st0 : List AV} {sr0 q : List Value} (hn : bc_br b pc off ls st0 h = some (.inl (pc', ls', st', h'))) (hl : LR B σ ls nL lsr) (hs : SR B σ st0 q)
    (row : ∀ tgt : Nat, (pc : Int) + off = (tgt : Int) → b = true → W p l e R s m args below meth c H locs cells slots Q (F0 m tgt lsr q) → W p l e R s m args below meth c H locs cells slots Q (F0 m pc lsr sr)) (rowN : b = false → W p l e R s m args below meth c H locs cells slots Q (F0 m (pc + 3) lsr q) → W p l e R s m args below meth c H locs cells slots Q (F0 m pc lsr sr)) : h' = h ∧ (Kn p l e R s m args below meth c H locs cells slots Q B σ nL pc' ls' st' → W p l e R s m args below meth c H locs cells slots Q (F0 m pc lsr sr)) := by
  unfold bc_br at hn
  cases b with
  | true =>
    rw [if_pos rfl] at hn
    obtain ⟨h1, rfl, rfl, rfl⟩ := bc_jmp_inv hn
    exact ⟨rfl, fun K => row _ h1 rfl (K _ _ hl hs)⟩
  | false =>
    rw [if_neg (by decide)] at hn
    simp only [Option.some.injEq, Sum.inl.injEq, Prod.mk.injEq] at hn
    obtain ⟨rfl, rfl, rfl, rfl⟩ := hn
    exact ⟨rfl, fun K => rowN rfl (K _ _ hl hs)⟩
theorem t_eq {x y : Int32} : x = y ↔ x.toInt = y.toInt := Int32.toInt_inj.symm
theorem t_lt {x y : Int32} : x < y ↔ x.toInt < y.toInt := Int32.lt_iff_toInt_lt
theorem t_le {x y : Int32} : x ≤ y ↔ x.toInt ≤ y.toInt := Int32.le_iff_toInt_le
theorem t_zero : (0 : Int32).toInt = 0 := rfl
theorem sm_icmp {cnd : Jvm.ClassFile.Cond} {off : Int} (hx : p.tables.exec = Jvm.exec) (hb : c.code = cc) (hdg : decode cc pc = .ok (.if_icmp cnd off, 3)) {x y : Int32} {r : List AV} {q : List Value} (hn : bc_br (bc_cc cnd x.toInt y.toInt) pc off ls r h = some (.inl (pc', ls', st', h'))) (hl : LR B σ ls nL lsr) (hs : SR B σ r q) (hsr : sr = .int y :: .int x :: q) : h' = h ∧ (Kn p l e R s m args below meth c H locs cells slots Q B σ nL pc' ls' st' → W p l e R s m args below meth c H locs cells slots Q (F0 m pc lsr sr)) := by
  subst hsr
  refine sm_br (sr0 := []) hn hl hs (fun tgt ht hbt kk => ?_) (fun hbt kk => ?_)
  · cases cnd
    · exact lv_icmp_eq hx hb hdg ht (fun _ => kk) (fun z => absurd (t_eq.mpr (of_decide_eq_true hbt)) z)
    · exact lv_icmp_ne hx hb hdg ht (fun _ => kk) (fun z => absurd z ((not_congr t_eq).mpr (of_decide_eq_true hbt)))
    · exact lv_icmp_lt hx hb hdg ht (fun _ => kk) (fun z => absurd (t_lt.mpr (of_decide_eq_true hbt)) z)
    · exact lv_icmp_ge hx hb hdg ht (fun _ => kk) (fun z => absurd (t_le.mpr (of_decide_eq_true hbt)) z)
    · exact lv_icmp_gt hx hb hdg ht (fun _ => kk) (fun z => absurd (t_lt.mpr (of_decide_eq_true hbt)) z)
    · exact lv_icmp_le hx hb hdg ht (fun _ => kk) (fun z => absurd (t_le.mpr (of_decide_eq_true hbt)) z)
  · cases cnd
    · exact lv_icmpN_eq hx hb hdg (fun z => of_decide_eq_false hbt (t_eq.mp z)) kk
    · exact lv_icmpN_ne hx hb hdg (fun z => of_decide_eq_false hbt ((not_congr t_eq).mp z)) kk
    · exact lv_icmpN_lt hx hb hdg (fun z => of_decide_eq_false hbt (t_lt.mp z)) kk
    · exact lv_icmpN_ge hx hb hdg (fun z => of_decide_eq_false hbt (t_le.mp z)) kk
    · exact lv_icmpN_gt hx hb hdg (fun z => of_decide_eq_false hbt (t_lt.mp z)) kk
    · exact lv_icmpN_le hx hb hdg (fun z => of_decide_eq_false hbt (t_le.mp z)) kk
theorem sm_if {cnd : Jvm.ClassFile.Cond} {off : Int} (hx : p.tables.exec = Jvm.exec) (hb : c.code = cc) (hdg : decode cc pc = .ok (.ifCond cnd off, 3)) {x : Int32} {r : List AV} {q : List Value} (hn : bc_br (bc_cc cnd x.toInt 0) pc off ls r h = some (.inl (pc', ls', st', h'))) (hl : LR B σ ls nL lsr) (hs : SR B σ r q) (hsr : sr = .int x :: q) : h' = h ∧ (Kn p l e R s m args below meth c H locs cells slots Q B σ nL pc' ls' st' → W p l e R s m args below meth c H locs cells slots Q (F0 m pc lsr sr)) := by
  subst hsr
  refine sm_br (sr0 := []) hn hl hs (fun tgt ht hbt kk => ?_) (fun hbt kk => ?_)
  · cases cnd
    · exact lv_if_eq hx hb hdg ht (fun _ => kk) (fun z => absurd (t_eq.mpr (by rw [t_zero]; exact of_decide_eq_true hbt)) z)
    · exact lv_if_ne hx hb hdg ht (fun _ => kk) (fun z => absurd z ((not_congr t_eq).mpr (by rw [t_zero]; exact of_decide_eq_true hbt)))
    · exact lv_if_lt hx hb hdg ht (fun _ => kk) (fun z => absurd (t_lt.mpr (by rw [t_zero]; exact of_decide_eq_true hbt)) z)
    · exact lv_if_ge hx hb hdg ht (fun _ => kk) (fun z => absurd (t_le.mpr (by rw [t_zero]; exact of_decide_eq_true hbt)) z)
    · exact lv_if_gt hx hb hdg ht (fun _ => kk) (fun z => absurd (t_lt.mpr (by rw [t_zero]; exact of_decide_eq_true hbt)) z)
    · exact lv_if_le hx hb hdg ht (fun _ => kk) (fun z => absurd (t_le.mpr (by rw [t_zero]; exact of_decide_eq_true hbt)) z)
  · cases cnd
    · exact lv_ifN_eq hx hb hdg (fun z => of_decide_eq_false hbt (by have q := t_eq.mp z; rw [t_zero] at q; exact q)) kk
    · exact lv_ifN_ne hx hb hdg (fun z => of_decide_eq_false hbt (by have q := (not_congr t_eq).mp z; rw [t_zero] at q; exact q)) kk
    · exact lv_ifN_lt hx hb hdg (fun z => of_decide_eq_false hbt (by have q := t_lt.mp z; rw [t_zero] at q; exact q)) kk
    · exact lv_ifN_ge hx hb hdg (fun z => of_decide_eq_false hbt (by have q := t_le.mp z; rw [t_zero] at q; exact q)) kk
    · exact lv_ifN_gt hx hb hdg (fun z => of_decide_eq_false hbt (by have q := t_lt.mp z; rw [t_zero] at q; exact q)) kk
    · exact lv_ifN_le hx hb hdg (fun z => of_decide_eq_false hbt (by have q := t_le.mp z; rw [t_zero] at q; exact q)) kk
end SN
