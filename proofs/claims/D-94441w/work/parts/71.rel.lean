/-! ===== THE ABSTRACT MACHINE'S VALUES, LOCALS, STACK AGAINST THE MACHINE'S ===== -/
/-- what an abstract address is: null; one of the start's (by σ); one made since (from B on) -/
def rhoV (B : Nat) (σ : Nat → Value) (a : Nat) : Value := if a = 0 then .null else if a < 16 then σ a else .ref (B + (a - 16))
def VR (B : Nat) (σ : Nat → Value) : AV → Value → Prop
  | .inl z, v => ∃ n : Int32, v = .int n ∧ n.toInt = z
  | .inr (.inl z), v => ∃ n : Int64, v = .long n ∧ n.toInt = z
  | .inr (.inr (.inl a)), v => v = rhoV B σ a ∧ (v = .null ∨ ∃ q : Nat, v = .ref q)
  | .inr (.inr (.inr _)), _ => False
def SR (B : Nat) (σ : Nat → Value) : List AV → List Value → Prop
  | [], [] => True
  | x :: r, v :: q => VR B σ x v ∧ SR B σ r q
  | _, _ => False
def LR (B : Nat) (σ : Nat → Value) (ls : List AV) (nL : Nat) (lsr : Array Slot) : Prop :=
  ls.length = nL ∧ ∃ vs : List (Nat × Value), lv_has lsr nL vs ∧ ∀ (i : Nat) (x : AV), ls[i]? = some x → bc_isX x = false → ∃ v, (i, v) ∈ vs ∧ VR B σ x v
theorem VR.cat {B : Nat} {σ : Nat → Value} {x : AV} {v : Value} (h : VR B σ x v) : v.category = bc_cat x := by
  rcases x with z | z | a | u
  · obtain ⟨n, rfl, -⟩ := h; rfl
  · obtain ⟨n, rfl, -⟩ := h; rfl
  · rcases h.2 with rfl | ⟨q, rfl⟩ <;> rfl
  · exact h.elim
theorem SR.len {B : Nat} {σ : Nat → Value} : ∀ {st : List AV} {sr : List Value}, SR B σ st sr → sr.length = st.length
  | [], [], _ => rfl
  | x :: r, v :: q, h => by simp only [List.length_cons]; rw [SR.len h.2]
  | [], _ :: _, h => h.elim
  | _ :: _, [], h => h.elim
theorem SR.cats {B : Nat} {σ : Nat → Value} : ∀ {st : List AV} {sr : List Value}, SR B σ st sr → sr.map (fun v => v.category) = st.map bc_cat
  | [], [], _ => rfl
  | x :: r, v :: q, h => by simp only [List.map_cons]; rw [SR.cats h.2, h.1.cat]
  | [], _ :: _, h => h.elim
  | _ :: _, [], h => h.elim
/-- one on top -/
theorem SR.one {B : Nat} {σ : Nat → Value} {x : AV} {st : List AV} {sr : List Value} (h : SR B σ (x :: st) sr) : ∃ v q, sr = v :: q ∧ VR B σ x v ∧ SR B σ st q := by
  cases sr with
  | nil => exact h.elim
  | cons v q => exact ⟨v, q, rfl, h.1, h.2⟩
theorem SR.i {B : Nat} {σ : Nat → Value} {z : Int} {st : List AV} {sr : List Value} (h : SR B σ (.inl z :: st) sr) : ∃ (n : Int32) (q : List Value), sr = .int n :: q ∧ n.toInt = z ∧ SR B σ st q := by
  obtain ⟨v, q, rfl, ⟨n, rfl, e⟩, h2⟩ := h.one
  exact ⟨n, q, rfl, e, h2⟩
theorem SR.j {B : Nat} {σ : Nat → Value} {z : Int} {st : List AV} {sr : List Value} (h : SR B σ (.inr (.inl z) :: st) sr) : ∃ (n : Int64) (q : List Value), sr = .long n :: q ∧ n.toInt = z ∧ SR B σ st q := by
  obtain ⟨v, q, rfl, ⟨n, rfl, e⟩, h2⟩ := h.one
  exact ⟨n, q, rfl, e, h2⟩
theorem SR.r {B : Nat} {σ : Nat → Value} {a : Nat} {st : List AV} {sr : List Value} (h : SR B σ (.inr (.inr (.inl a)) :: st) sr) : ∃ (v : Value) (q : List Value), sr = v :: q ∧ v = rhoV B σ a ∧ (v = .null ∨ ∃ q : Nat, v = .ref q) ∧ SR B σ st q := by
  obtain ⟨v, q, rfl, ⟨e, f⟩, h2⟩ := h.one
  exact ⟨v, q, rfl, e, f, h2⟩
theorem LR.get {B : Nat} {σ : Nat → Value} {ls : List AV} {nL : Nat} {lsr : Array Slot} (h : LR B σ ls nL lsr) {i : Nat} {x : AV} (hi : ls[i]? = some x) (hx : bc_isX x = false) : ∃ v, lsr[i]? = some (.val v) ∧ VR B σ x v := by
  obtain ⟨-, vs, hv, hm⟩ := h
  obtain ⟨v, m, r⟩ := hm i x hi hx
  exact ⟨v, hv.2.2 _ m, r⟩
theorem bc_kill_len {ls : List AV} {n : Nat} : (bc_kill ls n).length = ls.length := by
  cases n with
  | zero => rfl
  | succ m =>
    show (match ls[m]? with | some (.inr (.inl _)) => ls.set m vX | _ => ls).length = _
    split
    · rw [List.length_set]
    · rfl
/-- what is alive in bc_kill was there -/
theorem bc_kill_get {ls : List AV} {n j : Nat} {y : AV} (h : (bc_kill ls n)[j]? = some y) (hx : bc_isX y = false) : ls[j]? = some y ∧ (j + 1 = n → bc_isC2 y = false) := by
  cases n with
  | zero => exact ⟨h, fun e => by omega⟩
  | succ m =>
    replace h : (match ls[m]? with | some (.inr (.inl _)) => ls.set m vX | _ => ls)[j]? = some y := h
    split at h
    · rename_i z hz
      by_cases e : m = j
      · subst e
        rw [List.getElem?_set_self (List.getElem?_eq_some_iff.mp hz).1] at h
        cases h
        cases hx
      · rw [List.getElem?_set_ne e] at h
        exact ⟨h, fun q => by omega⟩
    · rename_i hz
      refine ⟨h, fun e => ?_⟩
      have e : j = m := by omega
      subst e
      rcases y with z | z | a | u
      · rfl
      · exact absurd h (hz z)
      · rfl
      · rfl
theorem LR.st1 {B : Nat} {σ : Nat → Value} {ls ls' : List AV} {nL i : Nat} {x : AV} {v : Value} {vs : List (Nat × Value)} (hlen : ls.length = nL) (hm : ∀ (i : Nat) (x : AV), ls[i]? = some x → bc_isX x = false → ∃ v, (i, v) ∈ vs ∧ VR B σ x v) (hst : bc_st1 ls i x = some ls') (hv : VR B σ x v) :
    i < nL ∧ ls'.length = nL ∧ ∀ (j : Nat) (y : AV), ls'[j]? = some y → bc_isX y = false → ∃ w, (j, w) ∈ ((i, v) :: vs.filter (fun q => !(q.1 == i) && !(q.1 + 1 == i && q.2.category == 2))) ∧ VR B σ y w := by
  unfold bc_st1 at hst
  split at hst
  · rename_i hi
    cases hst
    refine ⟨by omega, by rw [List.length_set, bc_kill_len, hlen], fun j y hj hy => ?_⟩
    by_cases e : i = j
    · subst e
      rw [List.getElem?_set_self (by rw [bc_kill_len]; exact hi)] at hj
      cases hj
      exact ⟨v, List.mem_cons_self, hv⟩
    · rw [List.getElem?_set_ne e] at hj
      obtain ⟨h1, h2⟩ := bc_kill_get hj hy
      obtain ⟨w, m, r⟩ := hm j y h1 hy
      refine ⟨w, List.mem_cons_of_mem _ (List.mem_filter.mpr ⟨m, ?_⟩), r⟩
      have e1 : (j == i) = false := by simpa using fun q => e q.symm
      rw [e1]
      by_cases f : j + 1 = i
      · have c := h2 f
        have : w.category = 1 := by rw [r.cat]; unfold bc_cat; rw [c]; rfl
        simp [f, this]
      · simp [f]
  · cases hst
theorem LR.st2 {B : Nat} {σ : Nat → Value} {ls ls' : List AV} {nL i : Nat} {x : AV} {v : Value} {vs : List (Nat × Value)} (hlen : ls.length = nL) (hm : ∀ (i : Nat) (x : AV), ls[i]? = some x → bc_isX x = false → ∃ v, (i, v) ∈ vs ∧ VR B σ x v) (hst : bc_st2 ls i x = some ls') (hv : VR B σ x v) :
    i + 1 < nL ∧ ls'.length = nL ∧ ∀ (j : Nat) (y : AV), ls'[j]? = some y → bc_isX y = false → ∃ w, (j, w) ∈ ((i, v) :: vs.filter (fun q => !(q.1 == i) && (!(q.1 == i + 1) && !(q.1 + 1 == i && q.2.category == 2)))) ∧ VR B σ y w := by
  unfold bc_st2 at hst
  split at hst
  · rename_i hi
    cases hst
    refine ⟨by omega, by rw [List.length_set, List.length_set, bc_kill_len, hlen], fun j y hj hy => ?_⟩
    by_cases e2 : i + 1 = j
    · subst e2
      rw [List.getElem?_set_self (by rw [List.length_set, bc_kill_len]; exact hi)] at hj
      cases hj
      cases hy
    · rw [List.getElem?_set_ne e2] at hj
      by_cases e : i = j
      · subst e
        rw [List.getElem?_set_self (by rw [bc_kill_len]; omega)] at hj
        cases hj
        exact ⟨v, List.mem_cons_self, hv⟩
      · rw [List.getElem?_set_ne e] at hj
        obtain ⟨h1, h2⟩ := bc_kill_get hj hy
        obtain ⟨w, m, r⟩ := hm j y h1 hy
        refine ⟨w, List.mem_cons_of_mem _ (List.mem_filter.mpr ⟨m, ?_⟩), r⟩
        have e1 : (j == i) = false := by simpa using fun q => e q.symm
        have e3 : (j == i + 1) = false := by simpa using fun q => e2 q.symm
        rw [e1, e3]
        by_cases f : j + 1 = i
        · have c := h2 f
          have : w.category = 1 := by rw [r.cat]; unfold bc_cat; rw [c]; rfl
          simp [f, this]
        · simp [f]
  · cases hst
/-! numbers -/
theorem t32 {n : Int32} : Int32.ofInt n.toInt = n := Int32.ofInt_toInt n
theorem t64 {n : Int64} : Int64.ofInt n.toInt = n := Int64.ofInt_toInt n
theorem t_add {a b : Int32} : (a + b).toInt = w32 (a.toInt + b.toInt) := by rw [Int32.toInt_add]; rfl
theorem t_sub {a b : Int32} : (a - b).toInt = w32 (a.toInt - b.toInt) := by rw [Int32.toInt_sub]; rfl
theorem t_mul {a b : Int32} : (a * b).toInt = w32 (a.toInt * b.toInt) := by rw [Int32.toInt_mul]; rfl
theorem t_div {a b : Int32} : (a / b).toInt = w32 (Int.tdiv a.toInt b.toInt) := by rw [Int32.toInt_div]; rfl
theorem t_neg {a : Int32} : (-a).toInt = w32 (-a.toInt) := by rw [Int32.toInt_neg]; rfl
theorem u_add {a b : Int64} : (a + b).toInt = w64 (a.toInt + b.toInt) := by rw [Int64.toInt_add]; rfl
theorem u_sub {a b : Int64} : (a - b).toInt = w64 (a.toInt - b.toInt) := by rw [Int64.toInt_sub]; rfl
theorem u_mul {a b : Int64} : (a * b).toInt = w64 (a.toInt * b.toInt) := by rw [Int64.toInt_mul]; rfl
theorem u_div {a b : Int64} : (a / b).toInt = w64 (Int.tdiv a.toInt b.toInt) := by rw [Int64.toInt_div]; rfl
theorem u_neg {a : Int64} : (-a).toInt = w64 (-a.toInt) := by rw [Int64.toInt_neg]; rfl
theorem w32_idR {z : Int} (h0 : -2 ^ 31 ≤ z) (h1 : z < 2 ^ 31) : Int.bmod z 4294967296 = z := by
  rw [Int.bmod_eq_of_le] <;> omega
theorem w64_idR {z : Int} (h0 : -2 ^ 63 ≤ z) (h1 : z < 2 ^ 63) : Int.bmod z 18446744073709551616 = z := by
  rw [Int.bmod_eq_of_le] <;> omega
theorem t_rem {a b : Int32} : (a - a / b * b).toInt = Int.tmod a.toInt b.toInt := by
  have h1 : (a % b).toInt = Int.tmod a.toInt b.toInt := Int32.toInt_mod a b
  have h2 : a - a / b * b = a % b := by
    have e : Int.tmod a.toInt b.toInt = a.toInt - b.toInt * Int.tdiv a.toInt b.toInt := by
      have := Int.tmod_add_mul_tdiv a.toInt b.toInt
      omega
    apply Int32.toInt_inj.mp
    rw [h1, t_sub, t_mul, t_div]
    unfold w32
    rw [Int.bmod_mul_bmod, Int.sub_bmod_bmod, Int.mul_comm, ← e]
    have l1 := Int32.le_toInt (a % b)
    have l2 := Int32.toInt_lt (a % b)
    rw [h1] at l1 l2
    exact w32_idR l1 l2
  rw [h2, h1]
