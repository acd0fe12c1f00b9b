/-! ===== THE ABSTRACT HEAP AGAINST THE MACHINE'S ===== -/
def bc_tcode (d : String) : Nat := if d = "I" then 0 else if d = "Z" then 1 else if d = "B" then 2 else if d = "J" then 3 else 4
/-- an array kind's component, and how it is read -/
def bc_aty : Nat → FieldType
  | 102 => .long
  | 103 => .byte
  | 104 => .boolean
  | 105 => .object "java/lang/Object"
  | 106 => .object "BeadChains$Row"
  | 108 => .byte
  | 109 => .object "java/lang/Object"
  | _ => .int
def bc_act : Nat → Nat
  | 102 => 3
  | 105 => 4
  | 106 => 4
  | 109 => 4
  | _ => 0
/-- the kinds of the start's own cells: the script, the empty array, three texts, their bytes -/
def bc_spK (a : Nat) : Nat := ([0, 107, 109, 24, 24, 24, 108, 108, 108] : List Nat).getD a 0
/-- an object's cell -/
def OR (D : va_G) (B : Nat) (σ : Nat → Value) (h : AH) (H : Heap) (a c : Nat) : Prop :=
  ∃ (q : Nat) (cell : Cell) (r : vw_C), rhoV B σ a = .ref q ∧ H[q]? = some cell ∧ bc_cls c = some r ∧ cell.cls = D.1 c ∧ cell.vm = .none ∧
    ∀ j : Nat, j < r.2.2 → ∃ v, cell.slots[D.2 c j]? = some v ∧ VR B σ (bc_rd h a (j : Int) (bc_tcode (r.2.1 j).2.2.1)) v
/-- an array's cell -/
def AR (s0 : State) (B : Nat) (σ : Nat → Value) (h : AH) (H : Heap) (a c : Nat) : Prop :=
  ∃ (q : Nat) (cell : Cell), rhoV B σ a = .ref q ∧ H[q]? = some cell ∧ s0.isArrayOf cell (bc_aty c) ∧ va_RA s0 cell.cls (bc_aty c) ∧ cell.vm ≠ .unknown ∧ (∀ z, cell.vm ≠ .statics z) ∧ hL h a = (cell.slots.size : Int) ∧ cell.slots.size < 2 ^ 31 ∧
    ∀ j : Nat, j < cell.slots.size → ∃ v, cell.slots[j]? = some v ∧ VR B σ (bc_rd h a (j : Int) (bc_act c)) v
def CR (s0 : State) (D : va_G) (B : Nat) (σ : Nat → Value) (h : AH) (H : Heap) (a : Nat) : Prop :=
  (hK h a ≤ 40 → OR D B σ h H a (hK h a)) ∧ (40 < hK h a → AR s0 B σ h H a (hK h a))
def HR (s0 : State) (D : va_G) (σ : Nat → Value) (h : AH) (H : Heap) : Prop :=
  16 ≤ hN h ∧ H.size + 16 = s0.heap.size + hN h ∧ (∀ q : Nat, q < s0.heap.size → H[q]? = s0.heap[q]?) ∧ (∀ a, hK h a ≠ 0 → CR s0 D s0.heap.size σ h H a) ∧ (∀ a, a < 16 → hK h a = bc_spK a) ∧ ∀ a, hN h ≤ a → hK h a = 0
/-- the start's own cells lie below -/
def SpOk (B : Nat) (σ : Nat → Value) : Prop := (∀ a, a < 16 → a ≠ 0 → σ a = .null ∨ ∃ q : Nat, σ a = .ref q) ∧ ∀ (a q : Nat), a < 16 → σ a = .ref q → q < B
section HP
variable {s0 : State} {D : va_G} {σ : Nat → Value} {h h' : AH} {H H' : Heap} {a : Nat}
theorem rho_hi {B : Nat} (ha : 16 ≤ a) : rhoV B σ a = .ref (B + (a - 16)) := by
  unfold rhoV
  rw [if_neg (by omega), if_neg (by omega)]
theorem rho_ok {B : Nat} (hσ : SpOk B σ) : rhoV B σ a = .null ∨ ∃ q : Nat, rhoV B σ a = .ref q := by
  unfold rhoV
  split
  · exact Or.inl rfl
  · rename_i h0
    split
    · rename_i h1
      exact hσ.1 a h1 h0
    · exact Or.inr ⟨_, rfl⟩
theorem VR_r {B : Nat} (hσ : SpOk B σ) : VR B σ (vR a) (rhoV B σ a) := ⟨rfl, rho_ok hσ⟩
/-- two addresses that hold something are apart -/
theorem rho_ne {B : Nat} (hσ : SpOk B σ) {b q : Nat} (ha : 16 ≤ a) (hb : b ≠ a) (hq : rhoV B σ b = .ref q) : q ≠ B + (a - 16) := by
  unfold rhoV at hq
  split at hq
  · cases hq
  · split at hq
    · rename_i h0 h1
      have := hσ.2 b q h1 hq
      omega
    · cases hq
      omega
theorem OR.kept {B c b : Nat} (hO : OR D B σ h H b c) (hq : ∀ q, rhoV B σ b = .ref q → H'[q]? = H[q]?) (hI : ∀ j, gI h' b j = gI h b j) (hR : ∀ j, gR h' b j = gR h b j) : OR D B σ h' H' b c := by
  obtain ⟨q, cell, r, h1, h2, h3, h4, h5, h6⟩ := hO
  refine ⟨q, cell, r, h1, by rw [hq q h1]; exact h2, h3, h4, h5, fun j hj => ?_⟩
  obtain ⟨v, e1, e2⟩ := h6 j hj
  refine ⟨v, e1, ?_⟩
  have : bc_rd h' b (j : Int) (bc_tcode (r.2.1 j).2.2.1) = bc_rd h b (j : Int) (bc_tcode (r.2.1 j).2.2.1) := by
    unfold bc_rd
    split <;> simp only [hI, hR]
  rw [this]
  exact e2
theorem AR.kept {B c b : Nat} (hA : AR s0 B σ h H b c) (hq : ∀ q, rhoV B σ b = .ref q → H'[q]? = H[q]?) (hL' : hL h' b = hL h b) (hI : ∀ j, gI h' b j = gI h b j) (hR : ∀ j, gR h' b j = gR h b j) : AR s0 B σ h' H' b c := by
  obtain ⟨q, cell, h1, h2, h3, h3b, h4, h5, h6, h7, h8⟩ := hA
  refine ⟨q, cell, h1, by rw [hq q h1]; exact h2, h3, h3b, h4, h5, by rw [hL']; exact h6, h7, fun j hj => ?_⟩
  obtain ⟨v, e1, e2⟩ := h8 j hj
  refine ⟨v, e1, ?_⟩
  have : bc_rd h' b (j : Int) (bc_act c) = bc_rd h b (j : Int) (bc_act c) := by
    unfold bc_rd
    split <;> simp only [hI, hR]
  rw [this]
  exact e2
/-- one cell that was made since is changed -/
theorem HR.upd (hσ : SpOk s0.heap.size σ) (hh : HR s0 D σ h H) (ha : 16 ≤ a) (eN : hN h' = hN h) (eK : ∀ b, hK h' b = hK h b) (eL : ∀ b, hL h' b = hL h b) (eI : ∀ b j, b ≠ a → gI h' b j = gI h b j) (eR : ∀ b j, b ≠ a → gR h' b j = gR h b j) (hsz : H'.size = H.size) (hoff : ∀ q, q ≠ s0.heap.size + (a - 16) → H'[q]? = H[q]?) (hnew : CR s0 D s0.heap.size σ h' H' a) : HR s0 D σ h' H' := by
  obtain ⟨h1, h2, h3, h4, h5, h6⟩ := hh
  refine ⟨by rw [eN]; exact h1, by rw [eN, hsz]; exact h2, fun q hq => ?_, fun b hb => ?_, fun b hb => ?_, fun b hb => ?_⟩
  · rw [hoff q (by omega)]
    exact h3 q hq
  · by_cases e : b = a
    · rw [e]; exact hnew
    · obtain ⟨k1, k2⟩ := h4 b (by rw [← eK]; exact hb)
      have hq : ∀ q, rhoV s0.heap.size σ b = .ref q → H'[q]? = H[q]? := fun q z => hoff q (rho_ne hσ ha e z)
      unfold CR
      rw [eK]
      exact ⟨fun z => (k1 z).kept hq (fun j => eI b j e) (fun j => eR b j e), fun z => (k2 z).kept hq (eL b) (fun j => eI b j e) (fun j => eR b j e)⟩
  · rw [eK]; exact h5 b hb
  · rw [eK]; exact h6 b (by rw [← eN]; exact hb)
/-- a cell is made -/
theorem HR.push {c u : Nat} {n : Int} {cell : Cell} (hσ : SpOk s0.heap.size σ) (hh : HR s0 D σ h H) (hnew : CR s0 D s0.heap.size σ (nw h c n u) (H.push cell) (hN h)) : HR s0 D σ (nw h c n u) (H.push cell) := by
  obtain ⟨h1, h2, h3, h4, h5, h6⟩ := hh
  have eN : hN (nw h c n u) = hN h + 1 := rfl
  have eK : ∀ b, hK (nw h c n u) b = if b = hN h then c else hK h b := fun b => rfl
  have eL : ∀ b, hL (nw h c n u) b = if b = hN h then n else hL h b := fun b => rfl
  have eI : ∀ b j, gI (nw h c n u) b j = if b = hN h then 0 else gI h b j := fun b j => rfl
  have eR : ∀ b j, gR (nw h c n u) b j = if b = hN h then 0 else gR h b j := fun b j => rfl
  have hp : ∀ q, q < H.size → (H.push cell)[q]? = H[q]? := fun q hq => by rw [Array.getElem?_push, if_neg (by omega)]
  refine ⟨by rw [eN]; omega, by rw [eN, Array.size_push]; omega, fun q hq => ?_, fun b hb => ?_, fun b hb => ?_, fun b hb => ?_⟩
  · rw [hp q (by omega)]
    exact h3 q hq
  · by_cases e : b = hN h
    · rw [e]; exact hnew
    · rw [eK, if_neg e] at hb
      obtain ⟨k1, k2⟩ := h4 b hb
      have hbn : b < hN h := by
        rcases Nat.lt_or_ge b (hN h) with z | z
        · exact z
        · exact absurd (h6 b z) hb
      have hq : ∀ q, rhoV s0.heap.size σ b = .ref q → (H.push cell)[q]? = H[q]? := by
        intro q z
        refine hp q ?_
        unfold rhoV at z
        split at z
        · cases z
        · split at z
          · rename_i _ z1
            have := hσ.2 b q z1 z
            omega
          · cases z
            omega
      unfold CR
      rw [eK, if_neg e]
      exact ⟨fun z => (k1 z).kept hq (fun j => by rw [eI, if_neg e]) (fun j => by rw [eR, if_neg e]), fun z => (k2 z).kept hq (by rw [eL, if_neg e]) (fun j => by rw [eI, if_neg e]) (fun j => by rw [eR, if_neg e])⟩
  · rw [eK, if_neg (by omega)]; exact h5 b hb
  · rw [eK, if_neg (by rw [eN] at hb; omega)]; exact h6 b (by rw [eN] at hb; omega)
/-- what may be written was made since -/
theorem HR.hi (hh : HR s0 D σ h H) (hk : hK h a ≠ 0) (h1 : hK h a ≠ 107) (h2 : hK h a ≠ 108) (h3 : hK h a ≠ 109) (h4 : hK h a ≠ 24) : 16 ≤ a := by
  rcases Nat.lt_or_ge a 16 with z | z
  · exfalso
    have e := hh.2.2.2.2.1 a z
    rw [e] at hk h1 h2 h3 h4
    have : a = 0 ∨ a = 1 ∨ a = 2 ∨ a = 3 ∨ a = 4 ∨ a = 5 ∨ a = 6 ∨ a = 7 ∨ a = 8 ∨ 9 ≤ a := by omega
    rcases this with rfl | rfl | rfl | rfl | rfl | rfl | rfl | rfl | rfl | z9
    · exact hk rfl
    · exact h1 rfl
    · exact h3 rfl
    · exact h4 rfl
    · exact h4 rfl
    · exact h4 rfl
    · exact h2 rfl
    · exact h2 rfl
    · exact h2 rfl
    · refine hk ?_
      unfold bc_spK
      rw [List.getD_eq_getElem?_getD, List.getElem?_eq_none (by simp; omega)]
      rfl
  · exact z
end HP
