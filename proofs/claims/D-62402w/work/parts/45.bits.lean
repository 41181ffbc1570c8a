/-! bits of ints -/
def bB (x : Int32) (i : Nat) : Bool := x.toBitVec.getLsbD i
def bI (K : Int) (j : Nat) : Bool := bB (Int32.ofInt K) j
theorem ofI_nat (j : Nat) : Int32.ofInt (j : Int) = nI j := Int32.ofInt_eq_ofNat
theorem bB_ext {x y : Int32} (h : ∀ i, i < 32 → bB x i = bB y i) : x = y := by
  apply Int32.toBitVec_inj.mp
  exact BitVec.eq_of_getLsbD_eq h
theorem bB_or (x y : Int32) (i : Nat) : bB (x ||| y) i = (bB x i || bB y i) := by
  unfold bB
  rw [Int32.toBitVec_or, BitVec.getLsbD_or]
theorem bB_and (x y : Int32) (i : Nat) : bB (x &&& y) i = (bB x i && bB y i) := by
  unfold bB
  rw [Int32.toBitVec_and, BitVec.getLsbD_and]
theorem bB_big {x : Int32} {i : Nat} (h : 32 ≤ i) : bB x i = false := BitVec.getLsbD_of_ge _ _ h
theorem bB_sl : ∀ n, n < 32 → ((nI n &&& 31).toBitVec.smod 32).toNat = n := by decide
theorem bB_shl (n : Nat) (hn : n < 32) (x : Int32) {i : Nat} (hi : i < 32) : bB (x <<< (nI n &&& 31)) i = (decide (n ≤ i) && bB x (i - n)) := by
  unfold bB
  rw [Int32.toBitVec_shiftLeft, BitVec.shiftLeft_eq', BitVec.getLsbD_shiftLeft, bB_sl n hn]
  simp only [hi, decide_true, Bool.true_and]
  congr 1
  by_cases h : i < n <;> simp [h] <;> omega
theorem bB_shr (n : Nat) (hn : n < 32) (x : Int32) : bB (x >>> (nI n &&& 31)) 0 = bB x n := by
  unfold bB
  rw [Int32.toBitVec_shiftRight, BitVec.sshiftRight_eq', BitVec.getLsbD_sshiftRight, bB_sl n hn]
  simp [hn]
theorem bB_0 (i : Nat) : bB 0 i = false := by simp [bB]
theorem bI_0 (j : Nat) : bI 0 j = false := bB_0 j
theorem bB_1 (i : Nat) : bB 1 i = decide (i = 0) := by
  by_cases h : i < 32
  · have : ∀ i, i < 32 → bB 1 i = decide (i = 0) := by decide
    exact this i h
  · rw [bB_big (by omega)]
    simp; omega
theorem bI_1 (i : Nat) : bI 1 i = decide (i = 0) := bB_1 i
theorem bI_2 (i : Nat) : bI 2 i = decide (i = 1) := by
  by_cases h : i < 32
  · have : ∀ i, i < 32 → bB (Int32.ofInt 2) i = decide (i = 1) := by decide
    exact this i h
  · rw [bI, bB_big (by omega)]
    simp; omega
theorem bI_3 (i : Nat) : bI 3 i = decide (i = 0 ∨ i = 1) := by
  by_cases h : i < 32
  · have : ∀ i, i < 32 → bB (Int32.ofInt 3) i = decide (i = 0 ∨ i = 1) := by decide
    exact this i h
  · rw [bI, bB_big (by omega)]
    simp; omega
theorem bI_shr (K : Int) (j : Nat) (hj : j < 32) : (Int32.ofInt ((Int32.ofInt K >>> (Int32.ofInt (j : Int) &&& 31)).toInt) &&& Int32.ofInt 1).toInt = if bI K j = true then 1 else 0 := by
  rw [Int32.ofInt_toInt, ofI_nat]
  have e : ∀ x : Int32, x &&& Int32.ofInt 1 = if bB x 0 = true then 1 else 0 := by
    intro x
    apply bB_ext
    intro i hi
    have e1 : Int32.ofInt 1 = 1 := rfl
    rw [bB_and, e1, bB_1]
    by_cases h0 : i = 0
    · subst h0
      cases h : bB x 0 <;> simp [bB_1, bB_0]
    · cases h : bB x 0 <;> simp [bB_1, bB_0, h0]
  rw [e, bB_shr j hj (Int32.ofInt K)]
  show (if bI K j = true then (1 : Int32) else 0).toInt = _
  split <;> rfl
theorem bI_or (a b : Int) (i : Nat) : bI ((Int32.ofInt a ||| Int32.ofInt b).toInt) i = (bI a i || bI b i) := by
  unfold bI
  rw [Int32.ofInt_toInt, bB_or]
theorem bI_shl (c : Int) (j i : Nat) (hj : j < 32) (hi : i < 32) : bI ((Int32.ofInt c <<< (Int32.ofInt (j : Int) &&& 31)).toInt) i = (decide (j ≤ i) && bI c (i - j)) := by
  unfold bI
  rw [Int32.ofInt_toInt, ofI_nat, bB_shl j hj _ hi]
theorem rg_or (a b : Int) : rg ((Int32.ofInt a ||| Int32.ofInt b).toInt) := by
  have h1 := Int32.toInt_lt (Int32.ofInt a ||| Int32.ofInt b)
  have h2 := Int32.le_toInt (Int32.ofInt a ||| Int32.ofInt b)
  exact ⟨by simpa using h2, by simpa using h1⟩
/-- the bits of K are the letters of ks -/
def KB (K : Int) (ks : List Int) : Prop := ∀ c, isLet c → (bI K (c - 97).toNat = true ↔ c ∈ ks)
theorem kb_nil : KB 0 [] := by
  intro c _
  rw [bI_0]
  simp
theorem kb_shr {K : Int} {ks : List Int} (h : KB K ks) {c : Int} (hc : isLet c) : ((Int32.ofInt ((Int32.ofInt K >>> (Int32.ofInt (c - 97) &&& 31)).toInt) &&& Int32.ofInt 1).toInt = 1) = (c ∈ ks) := by
  obtain ⟨j, hj⟩ : ∃ j : Nat, c - 97 = (j : Int) := ⟨(c - 97).toNat, by unfold isLet at hc; omega⟩
  have h1 := h c hc
  unfold isLet at hc
  rw [hj] at h1
  rw [hj, bI_shr K j (by omega), ← h1, show ((j : Int)).toNat = j by omega]
  cases bI K j <;> simp
theorem kb_add {K : Int} {ks : List Int} (h : KB K ks) {c : Int} (hc : isLet c) : KB ((Int32.ofInt K ||| Int32.ofInt ((Int32.ofInt 1 <<< (Int32.ofInt (c - 97) &&& 31)).toInt)).toInt) (ks ++ [c]) := by
  intro x hx
  obtain ⟨j, hj⟩ : ∃ j : Nat, c - 97 = (j : Int) := ⟨(c - 97).toNat, by unfold isLet at hc; omega⟩
  have h1 := h x hx
  unfold isLet at hc hx
  rw [hj, bI_or, bI_shl 1 j _ (by omega) (by omega), bI_1, Bool.or_eq_true, h1, List.mem_append, List.mem_singleton]
  simp only [Bool.and_eq_true, decide_eq_true_eq]
  constructor
  · rintro (q | q)
    · exact Or.inl q
    · right; omega
  · rintro (q | q)
    · exact Or.inl q
    · right; omega
