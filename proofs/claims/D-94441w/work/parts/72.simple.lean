/-! ===== ONE INSTRUCTION, NO HEAP: what the abstract machine does, the machine does ===== -/
theorem bc_go_inv {pc len pc' : Nat} {ls ls' st' : List AV} {h h' : AH} {o : Option (List AV)} (e : bc_go pc len ls h o = some (.inl (pc', ls', st', h'))) : o = some st' ∧ pc' = pc + len ∧ ls' = ls ∧ h' = h := by
  cases o with
  | none => cases e
  | some st =>
    have e : some (Sum.inl (pc + len, ls, st, h)) = some (Sum.inl (pc', ls', st', h')) := e
    simp only [Option.some.injEq, Sum.inl.injEq, Prod.mk.injEq] at e
    obtain ⟨rfl, rfl, rfl, rfl⟩ := e
    exact ⟨rfl, rfl, rfl, rfl⟩
theorem bc_i2_inv {f : Int → Int → Int} {st st' : List AV} (e : bc_i2 f st = some st') : ∃ (a b : Int) (r : List AV), st = .inl b :: .inl a :: r ∧ st' = vI (f a b) :: r := by
  unfold bc_i2 at e
  split at e
  · cases e; exact ⟨_, _, _, rfl, rfl⟩
  · cases e
theorem bc_j2_inv {f : Int → Int → Int} {st st' : List AV} (e : bc_j2 f st = some st') : ∃ (a b : Int) (r : List AV), st = .inr (.inl b) :: .inr (.inl a) :: r ∧ st' = vJ (f a b) :: r := by
  unfold bc_j2 at e
  split at e
  · cases e; exact ⟨_, _, _, rfl, rfl⟩
  · cases e
theorem bc_ji_inv {f : Int → Int → Int} {st st' : List AV} (e : bc_ji f st = some st') : ∃ (a b : Int) (r : List AV), st = .inl b :: .inr (.inl a) :: r ∧ st' = vJ (f a b) :: r := by
  unfold bc_ji at e
  split at e
  · cases e; exact ⟨_, _, _, rfl, rfl⟩
  · cases e
theorem bc_i1_inv {f : Int → AV} {st st' : List AV} (e : bc_i1 f st = some st') : ∃ (a : Int) (r : List AV), st = .inl a :: r ∧ st' = f a :: r := by
  unfold bc_i1 at e
  split at e
  · cases e; exact ⟨_, _, rfl, rfl⟩
  · cases e
theorem bc_j1_inv {f : Int → AV} {st st' : List AV} (e : bc_j1 f st = some st') : ∃ (a : Int) (r : List AV), st = .inr (.inl a) :: r ∧ st' = f a :: r := by
  unfold bc_j1 at e
  split at e
  · cases e; exact ⟨_, _, rfl, rfl⟩
  · cases e
section SM
variable {p : Program} {l : Launch} {e : Env} {R : Room} {s : State} {m : MethodId} {args : Array Value} {below : List Frame} {meth : Method} {c : Code} {H : Heap} {locs : List Loc} {cells slots : Nat} {Q : State → Prop} {B : Nat} {σ : Nat → Value} {nL : Nat}
variable {cc : ByteArray} {pc len pc' k : Nat} {ls ls' st st' : List AV} {h h' : AH} {lsr : Array Slot} {sr : List Value}
/-- from every frame that stands so, the machine comes to Q -/
def Kn (p : Program) (l : Launch) (e : Env) (R : Room) (s : State) (m : MethodId) (args : Array Value) (below : List Frame) (meth : Method) (c : Code) (H : Heap) (locs : List Loc) (cells slots : Nat) (Q : State → Prop) (B : Nat) (σ : Nat → Value) (nL : Nat) (pc : Nat) (ls st : List AV) : Prop :=
  ∀ (lsr : Array Slot) (sr : List Value), LR B σ ls nL lsr → SR B σ st sr → W p l e R s m args below meth c H locs cells slots Q (F0 m pc lsr sr)
theorem sm_i2 {f : Int → Int → Int} (g : Int32 → Int32 → Int32) (hf : ∀ x y : Int32, (g x y).toInt = f x.toInt y.toInt) (row : ∀ (x y : Int32) (rest : List Value), W p l e R s m args below meth c H locs cells slots Q (F0 m (pc + len) lsr (.int (g x y) :: rest)) → W p l e R s m args below meth c H locs cells slots Q (F0 m pc lsr (.int y :: .int x :: rest)))
    (hn : bc_go pc len ls h (bc_i2 f st) = some (.inl (pc', ls', st', h'))) (hl : LR B σ ls nL lsr) (hs : SR B σ st sr) : h' = h ∧ (Kn p l e R s m args below meth c H locs cells slots Q B σ nL pc' ls' st' → W p l e R s m args below meth c H locs cells slots Q (F0 m pc lsr sr)) := by
  obtain ⟨e1, rfl, rfl, rfl⟩ := bc_go_inv hn
  obtain ⟨a, b, r, rfl, rfl⟩ := bc_i2_inv e1
  obtain ⟨y, q, rfl, ey, hs⟩ := hs.i
  obtain ⟨x, q, rfl, ex, hs⟩ := hs.i
  exact ⟨rfl, fun K => row x y q (K _ _ hl ⟨⟨_, rfl, by rw [hf, ex, ey]⟩, hs⟩)⟩
theorem sm_j2 {f : Int → Int → Int} (g : Int64 → Int64 → Int64) (hf : ∀ x y : Int64, (g x y).toInt = f x.toInt y.toInt) (row : ∀ (x y : Int64) (rest : List Value), W p l e R s m args below meth c H locs cells slots Q (F0 m (pc + len) lsr (.long (g x y) :: rest)) → W p l e R s m args below meth c H locs cells slots Q (F0 m pc lsr (.long y :: .long x :: rest)))
    (hn : bc_go pc len ls h (bc_j2 f st) = some (.inl (pc', ls', st', h'))) (hl : LR B σ ls nL lsr) (hs : SR B σ st sr) : h' = h ∧ (Kn p l e R s m args below meth c H locs cells slots Q B σ nL pc' ls' st' → W p l e R s m args below meth c H locs cells slots Q (F0 m pc lsr sr)) := by
  obtain ⟨e1, rfl, rfl, rfl⟩ := bc_go_inv hn
  obtain ⟨a, b, r, rfl, rfl⟩ := bc_j2_inv e1
  obtain ⟨y, q, rfl, ey, hs⟩ := hs.j
  obtain ⟨x, q, rfl, ex, hs⟩ := hs.j
  exact ⟨rfl, fun K => row x y q (K _ _ hl ⟨⟨_, rfl, by rw [hf, ex, ey]⟩, hs⟩)⟩
theorem sm_ji {f : Int → Int → Int} (g : Int64 → Int32 → Int64) (hf : ∀ (x : Int64) (y : Int32), (g x y).toInt = f x.toInt y.toInt) (row : ∀ (x : Int64) (y : Int32) (rest : List Value), W p l e R s m args below meth c H locs cells slots Q (F0 m (pc + len) lsr (.long (g x y) :: rest)) → W p l e R s m args below meth c H locs cells slots Q (F0 m pc lsr (.int y :: .long x :: rest)))
    (hn : bc_go pc len ls h (bc_ji f st) = some (.inl (pc', ls', st', h'))) (hl : LR B σ ls nL lsr) (hs : SR B σ st sr) : h' = h ∧ (Kn p l e R s m args below meth c H locs cells slots Q B σ nL pc' ls' st' → W p l e R s m args below meth c H locs cells slots Q (F0 m pc lsr sr)) := by
  obtain ⟨e1, rfl, rfl, rfl⟩ := bc_go_inv hn
  obtain ⟨a, b, r, rfl, rfl⟩ := bc_ji_inv e1
  obtain ⟨y, q, rfl, ey, hs⟩ := hs.i
  obtain ⟨x, q, rfl, ex, hs⟩ := hs.j
  exact ⟨rfl, fun K => row x y q (K _ _ hl ⟨⟨_, rfl, by rw [hf, ex, ey]⟩, hs⟩)⟩
theorem sm_i1 {f : Int → AV} (g : Int32 → Value) (hf : ∀ x : Int32, VR B σ (f x.toInt) (g x)) (row : ∀ (x : Int32) (rest : List Value), W p l e R s m args below meth c H locs cells slots Q (F0 m (pc + len) lsr (g x :: rest)) → W p l e R s m args below meth c H locs cells slots Q (F0 m pc lsr (.int x :: rest)))
    (hn : bc_go pc len ls h (bc_i1 f st) = some (.inl (pc', ls', st', h'))) (hl : LR B σ ls nL lsr) (hs : SR B σ st sr) : h' = h ∧ (Kn p l e R s m args below meth c H locs cells slots Q B σ nL pc' ls' st' → W p l e R s m args below meth c H locs cells slots Q (F0 m pc lsr sr)) := by
  obtain ⟨e1, rfl, rfl, rfl⟩ := bc_go_inv hn
  obtain ⟨a, r, rfl, rfl⟩ := bc_i1_inv e1
  obtain ⟨x, q, rfl, ex, hs2⟩ := hs.i
  subst ex
  exact ⟨rfl, fun K => row x q (K _ _ hl ⟨hf x, hs2⟩)⟩
theorem sm_j1 {f : Int → AV} (g : Int64 → Value) (hf : ∀ x : Int64, VR B σ (f x.toInt) (g x)) (row : ∀ (x : Int64) (rest : List Value), W p l e R s m args below meth c H locs cells slots Q (F0 m (pc + len) lsr (g x :: rest)) → W p l e R s m args below meth c H locs cells slots Q (F0 m pc lsr (.long x :: rest)))
    (hn : bc_go pc len ls h (bc_j1 f st) = some (.inl (pc', ls', st', h'))) (hl : LR B σ ls nL lsr) (hs : SR B σ st sr) : h' = h ∧ (Kn p l e R s m args below meth c H locs cells slots Q B σ nL pc' ls' st' → W p l e R s m args below meth c H locs cells slots Q (F0 m pc lsr sr)) := by
  obtain ⟨e1, rfl, rfl, rfl⟩ := bc_go_inv hn
  obtain ⟨a, r, rfl, rfl⟩ := bc_j1_inv e1
  obtain ⟨x, q, rfl, ex, hs2⟩ := hs.j
  subst ex
  exact ⟨rfl, fun K => row x q (K _ _ hl ⟨hf x, hs2⟩)⟩
/-- a value pushed -/
theorem sm_push {x : AV} (v : Value) (hv : VR B σ x v) (row : ∀ (rest : List Value), W p l e R s m args below meth c H locs cells slots Q (F0 m (pc + len) lsr (v :: rest)) → W p l e R s m args below meth c H locs cells slots Q (F0 m pc lsr rest))
    (hn : bc_go pc len ls h (some (x :: st)) = some (.inl (pc', ls', st', h'))) (hl : LR B σ ls nL lsr) (hs : SR B σ st sr) : h' = h ∧ (Kn p l e R s m args below meth c H locs cells slots Q B σ nL pc' ls' st' → W p l e R s m args below meth c H locs cells slots Q (F0 m pc lsr sr)) := by
  obtain ⟨e1, rfl, rfl, rfl⟩ := bc_go_inv hn
  cases e1
  exact ⟨rfl, fun K => row _ (K _ _ hl ⟨hv, hs⟩)⟩
theorem sm_ldI {n : Nat} (row : ∀ (x : Int32) (rest : List Value), lsr[n]? = some (.val (.int x)) → W p l e R s m args below meth c H locs cells slots Q (F0 m (pc + len) lsr (.int x :: rest)) → W p l e R s m args below meth c H locs cells slots Q (F0 m pc lsr rest))
    (hn : bc_go pc len ls h (bc_ldI ls n st) = some (.inl (pc', ls', st', h'))) (hl : LR B σ ls nL lsr) (hs : SR B σ st sr) : h' = h ∧ (Kn p l e R s m args below meth c H locs cells slots Q B σ nL pc' ls' st' → W p l e R s m args below meth c H locs cells slots Q (F0 m pc lsr sr)) := by
  obtain ⟨e1, rfl, rfl, rfl⟩ := bc_go_inv hn
  unfold bc_ldI at e1
  split at e1
  · rename_i z hz
    cases e1
    obtain ⟨v, h1, n, rfl, h2⟩ := hl.get hz rfl
    exact ⟨rfl, fun K => row n _ h1 (K _ _ hl ⟨⟨_, rfl, h2⟩, hs⟩)⟩
  · cases e1
theorem sm_ldJ {n : Nat} (row : ∀ (x : Int64) (rest : List Value), lsr[n]? = some (.val (.long x)) → W p l e R s m args below meth c H locs cells slots Q (F0 m (pc + len) lsr (.long x :: rest)) → W p l e R s m args below meth c H locs cells slots Q (F0 m pc lsr rest))
    (hn : bc_go pc len ls h (bc_ldJ ls n st) = some (.inl (pc', ls', st', h'))) (hl : LR B σ ls nL lsr) (hs : SR B σ st sr) : h' = h ∧ (Kn p l e R s m args below meth c H locs cells slots Q B σ nL pc' ls' st' → W p l e R s m args below meth c H locs cells slots Q (F0 m pc lsr sr)) := by
  obtain ⟨e1, rfl, rfl, rfl⟩ := bc_go_inv hn
  unfold bc_ldJ at e1
  split at e1
  · rename_i z hz
    cases e1
    obtain ⟨v, h1, n, rfl, h2⟩ := hl.get hz rfl
    exact ⟨rfl, fun K => row n _ h1 (K _ _ hl ⟨⟨_, rfl, h2⟩, hs⟩)⟩
  · cases e1
theorem sm_ldR {n : Nat} (row : ∀ (v : Value) (rest : List Value), (v = .null ∨ ∃ q : Nat, v = .ref q) → lsr[n]? = some (.val v) → W p l e R s m args below meth c H locs cells slots Q (F0 m (pc + len) lsr (v :: rest)) → W p l e R s m args below meth c H locs cells slots Q (F0 m pc lsr rest))
    (hn : bc_go pc len ls h (bc_ldR ls n st) = some (.inl (pc', ls', st', h'))) (hl : LR B σ ls nL lsr) (hs : SR B σ st sr) : h' = h ∧ (Kn p l e R s m args below meth c H locs cells slots Q B σ nL pc' ls' st' → W p l e R s m args below meth c H locs cells slots Q (F0 m pc lsr sr)) := by
  obtain ⟨e1, rfl, rfl, rfl⟩ := bc_go_inv hn
  unfold bc_ldR at e1
  split at e1
  · rename_i z hz
    cases e1
    obtain ⟨v, h1, h2⟩ := hl.get hz rfl
    exact ⟨rfl, fun K => row v _ h2.2 h1 (K _ _ hl ⟨h2, hs⟩)⟩
  · cases e1
theorem sm_stI {n : Nat} (row : ∀ (x : Int32) (rest : List Value) (lv : List (Nat × Value)), lv_has lsr nL lv → n < nL → (∀ ls' : Array Slot, lv_has ls' nL ((n, Value.int x) :: lv.filter (fun q => !(q.1 == n) && !(q.1 + 1 == n && q.2.category == 2))) → W p l e R s m args below meth c H locs cells slots Q (F0 m (pc + len) ls' rest)) → W p l e R s m args below meth c H locs cells slots Q (F0 m pc lsr (.int x :: rest)))
    (hn : bc_stI pc len ls h n st = some (.inl (pc', ls', st', h'))) (hl : LR B σ ls nL lsr) (hs : SR B σ st sr) : h' = h ∧ (Kn p l e R s m args below meth c H locs cells slots Q B σ nL pc' ls' st' → W p l e R s m args below meth c H locs cells slots Q (F0 m pc lsr sr)) := by
  unfold bc_stI at hn
  split at hn
  · split at hn
    · rename_i l1 hst
      cases hn
      obtain ⟨x, q, rfl, ex, hs⟩ := hs.i
      obtain ⟨hlen, vs, hv, hm⟩ := hl
      obtain ⟨h1, h2, h3⟩ := LR.st1 (v := .int x) hlen hm hst ⟨_, rfl, ex⟩
      exact ⟨rfl, fun K => row x q vs hv h1 (fun ls2 h4 => K _ _ ⟨h2, _, h4, h3⟩ hs)⟩
    · cases hn
  · cases hn
theorem sm_stR {n : Nat} (row : ∀ (v : Value) (rest : List Value) (lv : List (Nat × Value)), (v = .null ∨ ∃ q : Nat, v = .ref q) → lv_has lsr nL lv → n < nL → (∀ ls' : Array Slot, lv_has ls' nL ((n, v) :: lv.filter (fun q => !(q.1 == n) && !(q.1 + 1 == n && q.2.category == 2))) → W p l e R s m args below meth c H locs cells slots Q (F0 m (pc + len) ls' rest)) → W p l e R s m args below meth c H locs cells slots Q (F0 m pc lsr (v :: rest)))
    (hn : bc_stR pc len ls h n st = some (.inl (pc', ls', st', h'))) (hl : LR B σ ls nL lsr) (hs : SR B σ st sr) : h' = h ∧ (Kn p l e R s m args below meth c H locs cells slots Q B σ nL pc' ls' st' → W p l e R s m args below meth c H locs cells slots Q (F0 m pc lsr sr)) := by
  unfold bc_stR at hn
  split at hn
  · split at hn
    · rename_i l1 hst
      cases hn
      obtain ⟨x, q, rfl, ex, ex2, hs⟩ := hs.r
      obtain ⟨hlen, vs, hv, hm⟩ := hl
      obtain ⟨h1, h2, h3⟩ := LR.st1 (v := x) hlen hm hst ⟨ex, ex2⟩
      exact ⟨rfl, fun K => row x q vs ex2 hv h1 (fun ls2 h4 => K _ _ ⟨h2, _, h4, h3⟩ hs)⟩
    · cases hn
  · cases hn
theorem sm_stJ {n : Nat} (row : ∀ (x : Int64) (rest : List Value) (lv : List (Nat × Value)), lv_has lsr nL lv → n + 1 < nL → (∀ ls' : Array Slot, lv_has ls' nL ((n, Value.long x) :: lv.filter (fun q => !(q.1 == n) && (!(q.1 == n + 1) && !(q.1 + 1 == n && q.2.category == 2)))) → W p l e R s m args below meth c H locs cells slots Q (F0 m (pc + len) ls' rest)) → W p l e R s m args below meth c H locs cells slots Q (F0 m pc lsr (.long x :: rest)))
    (hn : bc_stJ pc len ls h n st = some (.inl (pc', ls', st', h'))) (hl : LR B σ ls nL lsr) (hs : SR B σ st sr) : h' = h ∧ (Kn p l e R s m args below meth c H locs cells slots Q B σ nL pc' ls' st' → W p l e R s m args below meth c H locs cells slots Q (F0 m pc lsr sr)) := by
  unfold bc_stJ at hn
  split at hn
  · split at hn
    · rename_i l1 hst
      cases hn
      obtain ⟨x, q, rfl, ex, hs⟩ := hs.j
      obtain ⟨hlen, vs, hv, hm⟩ := hl
      obtain ⟨h1, h2, h3⟩ := LR.st2 (v := .long x) hlen hm hst ⟨_, rfl, ex⟩
      exact ⟨rfl, fun K => row x q vs hv h1 (fun ls2 h4 => K _ _ ⟨h2, _, h4, h3⟩ hs)⟩
    · cases hn
  · cases hn
theorem sm_inc {n : Nat} {z : Int} (hx : p.tables.exec = Jvm.exec) (hb : c.code = cc) (hdg : decode cc pc = .ok (.iinc n z, 3))
    (hn : bc_inc pc 3 ls h n z st = some (.inl (pc', ls', st', h'))) (hl : LR B σ ls nL lsr) (hs : SR B σ st sr) : h' = h ∧ (Kn p l e R s m args below meth c H locs cells slots Q B σ nL pc' ls' st' → W p l e R s m args below meth c H locs cells slots Q (F0 m pc lsr sr)) := by
  unfold bc_inc at hn
  split at hn
  · rename_i a ha
    split at hn
    · rename_i l1 hst
      cases hn
      obtain ⟨hlen, vs, hv, hm⟩ := hl
      obtain ⟨v, hmem, x, rfl, ex⟩ := hm _ _ ha rfl
      obtain ⟨i, hi⟩ := List.getElem?_of_mem hmem
      obtain ⟨h1, h2, h3⟩ := LR.st1 (v := .int (x + Int32.ofInt z)) hlen hm hst ⟨_, rfl, by rw [t_add, ex, Int32.toInt_ofInt]; exact Int.add_bmod_bmod⟩
      exact ⟨rfl, fun K => lv_iinc hx hb hdg hv hi rfl h1 rfl (fun ls2 h4 => K _ _ ⟨h2, _, h4, h3⟩ hs)⟩
    · cases hn
  · cases hn
end SM
