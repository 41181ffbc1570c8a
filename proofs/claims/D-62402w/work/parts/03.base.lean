/-! abstract values, abstract heaps -/
abbrev AV : Type := Int ⊕ (Nat ⊕ Int)
abbrev vI (z : Int) : AV := Sum.inl z
abbrev vR (p : Nat) : AV := Sum.inr (Sum.inl p)
abbrev vL (z : Int) : AV := Sum.inr (Sum.inr z)
def cR (p : Nat) : Value := match p with
  | 0 => .null
  | a + 1 => .ref a
def cv (v : AV) : Value := match v with
  | .inl z => .int (Int32.ofInt z)
  | .inr (.inl p) => cR p
  | .inr (.inr z) => .long (Int64.ofInt z)
abbrev AH : Type := Nat × Nat × (Nat → Nat × Nat) × (Nat → Nat → Int) × (Nat → Nat → Nat)
def hN (h : AH) : Nat := h.1
def hU (h : AH) : Nat := h.2.1
def gT (h : AH) (p : Nat) : Nat × Nat := h.2.2.1 p
def gI (h : AH) (p k : Nat) : Int := h.2.2.2.1 p k
def gR (h : AH) (p k : Nat) : Nat := h.2.2.2.2 p k
def sI (h : AH) (p k : Nat) (z : Int) : AH := (h.1, h.2.1, h.2.2.1, (fun p' k' => if p' = p ∧ k' = k then z else h.2.2.2.1 p' k'), h.2.2.2.2)
def sR (h : AH) (p k : Nat) (q : Nat) : AH := (h.1, h.2.1, h.2.2.1, h.2.2.2.1, (fun p' k' => if p' = p ∧ k' = k then q else h.2.2.2.2 p' k'))
def nw (h : AH) (t n : Nat) : AH := (h.1 + 1, h.2.1 + n, (fun p => if p = h.1 + 1 then (t, n) else h.2.2.1 p), (fun p k => if p = h.1 + 1 then 0 else h.2.2.2.1 p k), (fun p k => if p = h.1 + 1 then 0 else h.2.2.2.2 p k))
theorem hN_sI (h : AH) (p k : Nat) (z : Int) : hN (sI h p k z) = hN h := rfl
theorem hU_sI (h : AH) (p k : Nat) (z : Int) : hU (sI h p k z) = hU h := rfl
theorem gT_sI (h : AH) (p k : Nat) (z : Int) (q : Nat) : gT (sI h p k z) q = gT h q := rfl
theorem gR_sI (h : AH) (p k : Nat) (z : Int) (q j : Nat) : gR (sI h p k z) q j = gR h q j := rfl
theorem gI_sI (h : AH) (p k : Nat) (z : Int) (q j : Nat) : gI (sI h p k z) q j = if q = p ∧ j = k then z else gI h q j := rfl
theorem hN_sR (h : AH) (p k z : Nat) : hN (sR h p k z) = hN h := rfl
theorem hU_sR (h : AH) (p k z : Nat) : hU (sR h p k z) = hU h := rfl
theorem gT_sR (h : AH) (p k z : Nat) (q : Nat) : gT (sR h p k z) q = gT h q := rfl
theorem gI_sR (h : AH) (p k z : Nat) (q j : Nat) : gI (sR h p k z) q j = gI h q j := rfl
theorem gR_sR (h : AH) (p k z : Nat) (q j : Nat) : gR (sR h p k z) q j = if q = p ∧ j = k then z else gR h q j := rfl
theorem hN_nw (h : AH) (t n : Nat) : hN (nw h t n) = hN h + 1 := rfl
theorem hU_nw (h : AH) (t n : Nat) : hU (nw h t n) = hU h + n := rfl
theorem gT_nw (h : AH) (t n q : Nat) : gT (nw h t n) q = if q = hN h + 1 then (t, n) else gT h q := rfl
theorem gI_nw (h : AH) (t n q j : Nat) : gI (nw h t n) q j = if q = hN h + 1 then 0 else gI h q j := rfl
theorem gR_nw (h : AH) (t n q j : Nat) : gR (nw h t n) q j = if q = hN h + 1 then 0 else gR h q j := rfl
/-- in the range of an int -/
def rg (z : Int) : Prop := -2147483648 ≤ z ∧ z < 2147483648
theorem rg_toInt {z : Int} (h : rg z) : (Int32.ofInt z).toInt = z := Int32.toInt_ofInt_of_le h.1 h.2
theorem rg_eq {a b : Int} (ha : rg a) (hb : rg b) : Int32.ofInt a = Int32.ofInt b ↔ a = b := by
  constructor
  · intro h
    have h2 := congrArg Int32.toInt h
    rwa [rg_toInt ha, rg_toInt hb] at h2
  · intro h; rw [h]
theorem rg_lt {a b : Int} (ha : rg a) (hb : rg b) : Int32.ofInt a < Int32.ofInt b ↔ a < b := by
  rw [Int32.lt_iff_toInt_lt, rg_toInt ha, rg_toInt hb]
theorem rg_le {a b : Int} (ha : rg a) (hb : rg b) : Int32.ofInt a ≤ Int32.ofInt b ↔ a ≤ b := by
  rw [Int32.le_iff_toInt_le, rg_toInt ha, rg_toInt hb]
theorem rg_nat {z : Int} (h : rg z) : (Int32.ofInt z).toNatClampNeg = z.toNat := Int32.toNatClampNeg_ofInt_of_le h.1 h.2
theorem rg_x (x : Int32) : rg x.toInt := ⟨x.le_toInt, x.toInt_lt⟩
theorem cR_or (p : Nat) : cR p = .null ∨ ∃ a, cR p = .ref a := by
  cases p with
  | zero => exact Or.inl rfl
  | succ a => exact Or.inr ⟨a, rfl⟩
/-- the slots of the cells from b on -/
def us (b : Nat) (H : Heap) : Nat := ((H.toList.drop b).map (fun c => c.slots.size)).sum
theorem us_push {b : Nat} {H : Heap} (hb : b ≤ H.size) (c : Cell) : us b (H.push c) = us b H + c.slots.size := by
  unfold us
  rw [Array.toList_push, List.drop_append_of_le_length (by simpa using hb), List.map_append, List.sum_append]
  simp
theorem us_same {b : Nat} {H H' : Heap} (hs : H'.size = H.size) (hc : ∀ a : Nat, (H'[a]?).map (fun c => c.slots.size) = (H[a]?).map (fun c => c.slots.size)) : us b H' = us b H := by
  unfold us
  congr 1
  apply List.ext_getElem?
  intro i
  simp only [List.getElem?_map, List.getElem?_drop, Array.getElem?_toList]
  exact hc _
theorem us_split {b m : Nat} {H H' : Heap} (hb : b ≤ m) (hm : H.size = m) (hs : m ≤ H'.size) (hc : ∀ a : Nat, a < m → (H'[a]?).map (fun c => c.slots.size) = (H[a]?).map (fun c => c.slots.size)) : us b H' = us b H + us m H' := by
  unfold us
  have e1 : H'.toList.drop b = (H'.toList.drop b).take (m - b) ++ H'.toList.drop m := by
    have h := (List.take_append_drop (m - b) (H'.toList.drop b)).symm
    rw [List.drop_drop] at h
    have : b + (m - b) = m := by omega
    rw [this] at h
    exact h
  rw [e1, List.map_append, List.sum_append]
  congr 2
  apply List.ext_getElem?
  intro i
  simp only [List.getElem?_map, List.getElem?_drop, Array.getElem?_toList, List.getElem?_take]
  by_cases hi : i < m - b
  · rw [if_pos hi]
    exact hc _ (by omega)
  · rw [if_neg hi]
    have : H[b + i]? = none := by
      rw [Array.getElem?_eq_none]
      omega
    rw [this]
