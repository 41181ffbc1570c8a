/-! fields -/
def tgs : List Nat := [1, 2, 3, 4, 5, 6, 7, 8, 9, 10, 11, 12, 13, 14, 15, 16, 17, 18, 30]
def fTy (t k : Nat) : FieldType := (parseFieldDescriptor (cT t k).2.2.1).getD .int
def tnS (t : Nat) : Nat := match t with
  | 17 => 6
  | 18 => 6
  | 30 => 4
  | _ => (cF t).length
theorem tl_lay : ∀ t ∈ tgs, ∀ k, k < (cF t).length → u_lay (cN t) (cT t) k ∈ lw_tbl := by decide +kernel
theorem tl_nm : ∀ t ∈ tgs, ∀ a, a < (cF t).length → ∀ b, b < (cF t).length → a ≠ b → (cT t a).2.1 ≠ (cT t b).2.1 := by decide +kernel
theorem tl_ty : ∀ t ∈ tgs, ∀ k, k < (cF t).length → parseFieldDescriptor (cT t k).2.2.1 = some (fTy t k) := by decide +kernel
theorem tl_in : ∀ t ∈ [1, 2, 3, 4, 5, 6, 7, 8, 9, 10, 11, 12, 13, 14, 15, 16, 17, 18, 30], Cond.instantiable (cN t) (tnS t) ∈ lw_tbl := by decide +kernel
theorem tl_A : ∀ t ∈ tgs, isA t = false := by decide +kernel
theorem tl_k1 : ∀ t ∈ tgs, ∀ k, k < (cF t).length → (kd t k < 4 → fTy t k = aTy (kd t k)) ∧ (kd t k = 5 → (fTy t k).isReference = true) ∧ kd t k ≠ 4 := by decide +kernel
