/-! printed by gen/ops.py: simple instructions -/
def lk (ls : XL) (k : Nat) : Option AV := match ls, k with
  | [], _ => none
  | x :: _, 0 => x
  | _ :: r, n + 1 => lk r n
theorem lk_get : ∀ (ls : XL) (k : Nat) (v : AV), lk ls k = some v → ls[k]? = some (some v)
  | [], _, _, h => by simp [lk] at h
  | x :: _, 0, v, h => by simp only [lk] at h; simp [h]
  | _ :: r, n + 1, v, h => by simp only [lk] at h; simpa using lk_get r n v h
def lst (ls : XL) (k : Nat) (v : AV) : XL := match ls, k with
  | [], _ => []
  | _ :: r, 0 => some v :: r
  | x :: r, n + 1 => x :: lst r n v
theorem lst_set : ∀ (ls : XL) (k : Nat) (v : AV), lst ls k v = ls.set k (some v)
  | [], _, _ => rfl
  | _ :: _, 0, _ => rfl
  | _ :: r, n + 1, v => by simp [lst, lst_set r n v]
/-- a value of one word may be stored at k -/
def okS (ls : XL) (k : Nat) : Bool := match ls, k with
  | [], _ => false
  | _ :: _, 0 => true
  | some (.inr (.inr _)) :: _, 1 => false
  | _ :: r, n + 1 => okS r n
theorem okS_lt : ∀ (ls : XL) (k : Nat), okS ls k = true → k < ls.length
  | [], _, h => by simp [okS] at h
  | _ :: _, 0, _ => by simp
  | x :: r, n + 1, h => by
    have h2 : okS r n = true := by
      unfold okS at h
      split at h <;> simp_all
    have := okS_lt r n h2
    simp; omega
theorem okS_nl : ∀ (ls : XL) (k : Nat), okS ls (k + 1) = true → ∀ z : Int, ls[k]? ≠ some (some (vL z))
  | [], _, h => by simp [okS] at h
  | x :: r, 0, h => by
    intro z e
    simp at e
    subst e
    simp [okS] at h
  | x :: r, n + 1, h => by
    have h2 : okS r (n + 1) = true := by
      unfold okS at h
      split at h <;> simp_all
    intro z e
    simp at e
    exact okS_nl r n h2 z e
def prs (n : Nat) (ls : XL) : List (Nat × Value) := match ls with
  | [] => []
  | none :: r => prs (n + 1) r
  | some v :: r => (n, cv v) :: prs (n + 1) r
theorem mem_prs : ∀ (ls : XL) (n j : Nat) (w : Value), (j, w) ∈ prs n ls ↔ ∃ (i : Nat) (v : AV), j = n + i ∧ ls[i]? = some (some v) ∧ w = cv v
  | [], n, j, w => by simp [prs]
  | none :: r, n, j, w => by
    rw [prs, mem_prs r (n + 1) j w]
    constructor
    · rintro ⟨i, v, rfl, h2, rfl⟩
      exact ⟨i + 1, v, by omega, by simpa using h2, rfl⟩
    · rintro ⟨i, v, rfl, h2, rfl⟩
      cases i with
      | zero => simp at h2
      | succ i => exact ⟨i, v, by omega, by simpa using h2, rfl⟩
  | some u :: r, n, j, w => by
    rw [prs, List.mem_cons, mem_prs r (n + 1) j w]
    constructor
    · rintro (h | ⟨i, v, rfl, h2, rfl⟩)
      · cases h
        exact ⟨0, u, rfl, by simp, rfl⟩
      · exact ⟨i + 1, v, by omega, by simpa using h2, rfl⟩
    · rintro ⟨i, v, rfl, h2, rfl⟩
      cases i with
      | zero =>
        simp at h2
        subst h2
        exact Or.inl rfl
      | succ i => exact Or.inr ⟨i, v, by omega, by simpa using h2, rfl⟩
theorem lsOk.has {cls : Array Slot} {ls : XL} (h : lsOk cls ls) : lv_has cls ls.length (prs 0 ls) := by
  refine ⟨h.1, h.2.1, ?_⟩
  rintro ⟨j, w⟩ hq
  obtain ⟨i, v, e1, e2, e3⟩ := (mem_prs ls 0 j w).mp hq
  subst e3
  have : j = i := by omega
  subst this
  exact h.2.2 j v e2
theorem cat_cv (v : AV) : (cv v).category = 2 ↔ ∃ z, v = vL z := by
  match v with
  | .inl z => simp [cv, Value.category]
  | .inr (.inl 0) => simp [cv, cR, Value.category]
  | .inr (.inl (a + 1)) => simp [cv, cR, Value.category]
  | .inr (.inr z) => simp [cv, Value.category]
theorem lsOk.put {cls' : Array Slot} {ls : XL} {k : Nat} {v : AV} (hk : okS ls k = true) (h : lv_has cls' ls.length ((k, cv v) :: (prs 0 ls).filter (fun q => !(q.1 == k) && !(q.1 + 1 == k && q.2.category == 2)))) : lsOk cls' (lst ls k v) := by
  obtain ⟨h1, h2, h3⟩ := h
  have hlt := okS_lt ls k hk
  refine ⟨by rw [lst_set, List.length_set]; exact h1, h2, fun i w hw => ?_⟩
  rw [lst_set] at hw
  by_cases hi : i = k
  · subst hi
    rw [List.getElem?_set_self (by omega)] at hw
    cases hw
    exact h3 (i, cv v) List.mem_cons_self
  · rw [List.getElem?_set_ne (Ne.symm hi)] at hw
    refine h3 (i, cv w) (List.mem_cons_of_mem _ (List.mem_filter.mpr ⟨(mem_prs ls 0 i (cv w)).mpr ⟨i, w, by omega, hw, rfl⟩, ?_⟩))
    simp only [Bool.and_eq_true, Bool.not_eq_true', beq_eq_false_iff_ne, ne_eq, Bool.and_eq_false_iff]
    refine ⟨hi, ?_⟩
    by_cases h9 : i + 1 = k
    · right
      intro hc
      obtain ⟨z, rfl⟩ := (cat_cv w).mp hc
      subst h9
      exact okS_nl ls i hk z hw
    · exact Or.inl h9
theorem At1.ls {s0 s : State} {h : AH} {H : Heap} {locs : List Loc} {cls cls' : Array Slot} {ls ls' : XL} (A : At1 s0 s h H locs cls ls) (hl : lsOk cls' ls') : At1 s0 s h H locs cls' ls' := ⟨A.1, A.2.1, A.2.2.1, hl, A.2.2.2.2⟩
theorem At1.lo {s0 s : State} {h : AH} {H : Heap} {locs : List Loc} {cls : Array Slot} {ls : XL} (A : At1 s0 s h H locs cls ls) : lsOk cls ls := A.2.2.2.1
def po (p : Nat) : Option Nat := match p with
  | 0 => none
  | a + 1 => some a
theorem cR_rf (p : Nat) : cR p = va_rf (po p) := by cases p <;> rfl
theorem po_eq (p q : Nat) : po p = po q ↔ p = q := by
  cases p <;> cases q <;> simp [po]
def i_fall (t : Nat) : Tr := fun _ _ _ _ J ls st h _ => J t ls st h
theorem sd_fall {i pc t : Nat} (ht : pc = t) : Sd i pc 0 (i_fall t) := by
  subst ht
  intro l s0 d Q J K ls st h hk hJ hK
  exact hJ _ _ _ _ hk
def i_goto (t : Nat) : Tr := fun _ _ _ _ J ls st h _ => J t ls st h
theorem sd_goto {i pc t : Nat} {off : Int} (hd : decode (mi i).2.1 pc = .ok (.goto off, 3)) (ht : (pc : Int) + off = (t : Int)) : Sd i pc 3 (i_goto t) := by
  intro l s0 d Q J K ls st h hk hJ hK p e s m args below meth c R H locs cls C A
  exact lv_goto C.exec C.code hd ht (hJ _ _ _ _ hk p e s m args below meth c R H locs cls C A)
def i_ic (z : Int) : Tr := fun _ _ _ _ _ ls st h K => K ls (vI z :: st) h
theorem sd_iconst {i pc : Nat} {z : Int} (hd : decode (mi i).2.1 pc = .ok (.iconst z, 1)) : Sd i pc 1 (i_ic z) := by
  intro l s0 d Q J K ls st h hk hJ hK p e s m args below meth c R H locs cls C A
  exact lv_iconst C.exec C.code hd rfl (hK _ _ _ hk p e s m args below meth c R H locs cls C A)
theorem sd_bipush {i pc : Nat} {z : Int} (hd : decode (mi i).2.1 pc = .ok (.bipush z, 2)) (hv : (Int8.ofInt z).toInt32 = Int32.ofInt z) : Sd i pc 2 (i_ic z) := by
  intro l s0 d Q J K ls st h hk hJ hK p e s m args below meth c R H locs cls C A
  exact lv_bipush C.exec C.code hd hv (hK _ _ _ hk p e s m args below meth c R H locs cls C A)
theorem sd_sipush {i pc : Nat} {z : Int} (hd : decode (mi i).2.1 pc = .ok (.sipush z, 3)) (hv : (Int16.ofInt z).toInt32 = Int32.ofInt z) : Sd i pc 3 (i_ic z) := by
  intro l s0 d Q J K ls st h hk hJ hK p e s m args below meth c R H locs cls C A
  exact lv_sipush C.exec C.code hd hv (hK _ _ _ hk p e s m args below meth c R H locs cls C A)
theorem sd_ldc {i pc ix : Nat} {z : Int} (hd : decode (mi i).2.1 pc = .ok (.ldc ix, 2)) (hw : Cond.constant (mi i).1.cls ix (Int32.ofInt z) ∈ lw_tbl) : Sd i pc 2 (i_ic z) := by
  intro l s0 d Q J K ls st h hk hJ hK p e s m args below meth c R H locs cls C A
  exact lv_ldc C.exec C.code C.own (C.wd.use hw rfl rfl args) hd (hK _ _ _ hk p e s m args below meth c R H locs cls C A)
def i_lc (z : Int) : Tr := fun _ _ _ _ _ ls st h K => K ls (vL z :: st) h
theorem sd_ldc2 {i pc ix : Nat} {z : Int} (hd : decode (mi i).2.1 pc = .ok (.ldc2_w ix, 3)) (hw : Cond.constantLong (mi i).1.cls ix (Int64.ofInt z) ∈ lw_tbl) : Sd i pc 3 (i_lc z) := by
  intro l s0 d Q J K ls st h hk hJ hK p e s m args below meth c R H locs cls C A
  exact lv_ldc2 C.exec C.code C.own (C.wd.use hw rfl rfl args) hd (hK _ _ _ hk p e s m args below meth c R H locs cls C A)
def i_null : Tr := fun _ _ _ _ _ ls st h K => K ls (vR 0 :: st) h
theorem sd_null {i pc : Nat} (hd : decode (mi i).2.1 pc = .ok (.aconst_null, 1)) : Sd i pc 1 i_null := by
  intro l s0 d Q J K ls st h hk hJ hK p e s m args below meth c R H locs cls C A
  exact lv_null C.exec C.code hd (hK _ _ _ hk p e s m args below meth c R H locs cls C A)
def i_ldI (k : Nat) : Tr := fun _ _ _ _ _ ls st h K => match lk ls k with
  | some (.inl z) => K ls (vI z :: st) h
  | _ => False
theorem sd_iload_n {i pc k : Nat} {j : Fin 4} (hd : decode (mi i).2.1 pc = .ok (.iload_n j, 1)) (hj : (j : Nat) = k) : Sd i pc 1 (i_ldI k) := by
  intro l s0 d Q J K ls st h hk hJ hK p e s m args below meth c R H locs cls C A
  unfold i_ldI at hk
  split at hk
  · next z he =>
    have hl := A.lo.2.2 k _ (lk_get _ _ _ he)
    exact lv_iload_n C.exec C.code hd hj hl (hK _ _ _ hk p e s m args below meth c R H locs cls C A)
  · exact hk.elim
theorem sd_iload {i pc k : Nat} (hd : decode (mi i).2.1 pc = .ok (.iload k, 2)) : Sd i pc 2 (i_ldI k) := by
  intro l s0 d Q J K ls st h hk hJ hK p e s m args below meth c R H locs cls C A
  unfold i_ldI at hk
  split at hk
  · next z he =>
    have hl := A.lo.2.2 k _ (lk_get _ _ _ he)
    exact lv_iload C.exec C.code hd hl (hK _ _ _ hk p e s m args below meth c R H locs cls C A)
  · exact hk.elim
def i_ldR (k : Nat) : Tr := fun _ _ _ _ _ ls st h K => match lk ls k with
  | some (.inr (.inl z)) => K ls (vR z :: st) h
  | _ => False
theorem sd_aload_n {i pc k : Nat} {j : Fin 4} (hd : decode (mi i).2.1 pc = .ok (.aload_n j, 1)) (hj : (j : Nat) = k) : Sd i pc 1 (i_ldR k) := by
  intro l s0 d Q J K ls st h hk hJ hK p e s m args below meth c R H locs cls C A
  unfold i_ldR at hk
  split at hk
  · next z he =>
    have hl := A.lo.2.2 k _ (lk_get _ _ _ he)
    cases z with
    | zero => exact lv_aload_nN C.exec C.code hd hj hl (hK _ _ _ hk p e s m args below meth c R H locs cls C A)
    | succ a => exact lv_aload_n C.exec C.code hd hj hl (hK _ _ _ hk p e s m args below meth c R H locs cls C A)
  · exact hk.elim
theorem sd_aload {i pc k : Nat} (hd : decode (mi i).2.1 pc = .ok (.aload k, 2)) : Sd i pc 2 (i_ldR k) := by
  intro l s0 d Q J K ls st h hk hJ hK p e s m args below meth c R H locs cls C A
  unfold i_ldR at hk
  split at hk
  · next z he =>
    have hl := A.lo.2.2 k _ (lk_get _ _ _ he)
    cases z with
    | zero => exact lv_aloadN C.exec C.code hd hl (hK _ _ _ hk p e s m args below meth c R H locs cls C A)
    | succ a => exact lv_aload C.exec C.code hd hl (hK _ _ _ hk p e s m args below meth c R H locs cls C A)
  · exact hk.elim
def i_ldL (k : Nat) : Tr := fun _ _ _ _ _ ls st h K => match lk ls k with
  | some (.inr (.inr z)) => K ls (vL z :: st) h
  | _ => False
theorem sd_lload_n {i pc k : Nat} {j : Fin 4} (hd : decode (mi i).2.1 pc = .ok (.lload_n j, 1)) (hj : (j : Nat) = k) : Sd i pc 1 (i_ldL k) := by
  intro l s0 d Q J K ls st h hk hJ hK p e s m args below meth c R H locs cls C A
  unfold i_ldL at hk
  split at hk
  · next z he =>
    have hl := A.lo.2.2 k _ (lk_get _ _ _ he)
    exact lv_lload_n C.exec C.code hd hj hl (hK _ _ _ hk p e s m args below meth c R H locs cls C A)
  · exact hk.elim
theorem sd_lload {i pc k : Nat} (hd : decode (mi i).2.1 pc = .ok (.lload k, 2)) : Sd i pc 2 (i_ldL k) := by
  intro l s0 d Q J K ls st h hk hJ hK p e s m args below meth c R H locs cls C A
  unfold i_ldL at hk
  split at hk
  · next z he =>
    have hl := A.lo.2.2 k _ (lk_get _ _ _ he)
    exact lv_lload C.exec C.code hd hl (hK _ _ _ hk p e s m args below meth c R H locs cls C A)
  · exact hk.elim
def i_stI (k : Nat) : Tr := fun _ _ _ _ _ ls st h K => match st with
  | .inl z :: r => okS ls k = true ∧ K (lst ls k (vI z)) r h
  | _ => False
theorem sd_istore_n {i pc k : Nat} {j : Fin 4} (hd : decode (mi i).2.1 pc = .ok (.istore_n j, 1)) (hj : (j : Nat) = k) : Sd i pc 1 (i_stI k) := by
  intro l s0 d Q J K ls st h hk hJ hK p e s m args below meth c R H locs cls C A
  unfold i_stI at hk
  split at hk
  · next z r =>
    obtain ⟨ho, hk⟩ := hk
    exact lv_istore_n C.exec C.code hd hj A.lo.has (okS_lt _ _ ho) rfl (fun cls2 hl2 => hK _ _ _ hk p e s m args below meth c R H locs cls2 C (A.ls (lsOk.put (v := vI z) ho hl2)))
  · exact hk.elim
theorem sd_istore {i pc k : Nat} (hd : decode (mi i).2.1 pc = .ok (.istore k, 2)) : Sd i pc 2 (i_stI k) := by
  intro l s0 d Q J K ls st h hk hJ hK p e s m args below meth c R H locs cls C A
  unfold i_stI at hk
  split at hk
  · next z r =>
    obtain ⟨ho, hk⟩ := hk
    exact lv_istore C.exec C.code hd A.lo.has (okS_lt _ _ ho) rfl (fun cls2 hl2 => hK _ _ _ hk p e s m args below meth c R H locs cls2 C (A.ls (lsOk.put (v := vI z) ho hl2)))
  · exact hk.elim
def i_stR (k : Nat) : Tr := fun _ _ _ _ _ ls st h K => match st with
  | .inr (.inl z) :: r => okS ls k = true ∧ K (lst ls k (vR z)) r h
  | _ => False
theorem sd_astore_n {i pc k : Nat} {j : Fin 4} (hd : decode (mi i).2.1 pc = .ok (.astore_n j, 1)) (hj : (j : Nat) = k) : Sd i pc 1 (i_stR k) := by
  intro l s0 d Q J K ls st h hk hJ hK p e s m args below meth c R H locs cls C A
  unfold i_stR at hk
  split at hk
  · next z r =>
    obtain ⟨ho, hk⟩ := hk
    cases z with
    | zero => exact lv_astore_nN C.exec C.code hd hj A.lo.has (okS_lt _ _ ho) rfl (fun cls2 hl2 => hK _ _ _ hk p e s m args below meth c R H locs cls2 C (A.ls (lsOk.put (v := vR 0) ho hl2)))
    | succ a => exact lv_astore_n C.exec C.code hd hj A.lo.has (okS_lt _ _ ho) rfl (fun cls2 hl2 => hK _ _ _ hk p e s m args below meth c R H locs cls2 C (A.ls (lsOk.put (v := vR (a + 1)) ho hl2)))
  · exact hk.elim
theorem sd_astore {i pc k : Nat} (hd : decode (mi i).2.1 pc = .ok (.astore k, 2)) : Sd i pc 2 (i_stR k) := by
  intro l s0 d Q J K ls st h hk hJ hK p e s m args below meth c R H locs cls C A
  unfold i_stR at hk
  split at hk
  · next z r =>
    obtain ⟨ho, hk⟩ := hk
    cases z with
    | zero => exact lv_astoreN C.exec C.code hd A.lo.has (okS_lt _ _ ho) rfl (fun cls2 hl2 => hK _ _ _ hk p e s m args below meth c R H locs cls2 C (A.ls (lsOk.put (v := vR 0) ho hl2)))
    | succ a => exact lv_astore C.exec C.code hd A.lo.has (okS_lt _ _ ho) rfl (fun cls2 hl2 => hK _ _ _ hk p e s m args below meth c R H locs cls2 C (A.ls (lsOk.put (v := vR (a + 1)) ho hl2)))
  · exact hk.elim
def i_inc (k : Nat) (n : Int) : Tr := fun _ _ _ _ _ ls st h K => match lk ls k with
  | some (.inl z) => okS ls k = true ∧ K (lst ls k (vI (z + n))) st h
  | _ => False
theorem sd_iinc {i pc k : Nat} {n : Int} (hd : decode (mi i).2.1 pc = .ok (.iinc k n, 3)) : Sd i pc 3 (i_inc k n) := by
  intro l s0 d Q J K ls st h hk hJ hK p e s m args below meth c R H locs cls C A
  unfold i_inc at hk
  split at hk
  · next z he =>
    obtain ⟨ho, hk⟩ := hk
    obtain ⟨j, hj⟩ := List.getElem?_of_mem ((mem_prs ls 0 k (cv (vI z))).mpr ⟨k, _, by omega, lk_get _ _ _ he, rfl⟩)
    exact lv_iinc C.exec C.code hd A.lo.has (k := j) hj (v := Int32.ofInt (z + n)) (by rw [Int32.ofInt_add]) (okS_lt _ _ ho) rfl (fun cls2 hl2 => hK _ _ _ hk p e s m args below meth c R H locs cls2 C (A.ls (lsOk.put (v := vI (z + n)) ho hl2)))
  · exact hk.elim
def i_iadd : Tr := fun _ _ _ _ _ ls st h K => match st with
  | .inl b :: .inl a :: r => K ls (vI (a + b) :: r) h
  | _ => False
theorem sd_iadd {i pc : Nat} (hd : decode (mi i).2.1 pc = .ok (.iadd, 1)) : Sd i pc 1 i_iadd := by
  intro l s0 d Q J K ls st h hk hJ hK p e s m args below meth c R H locs cls C A
  unfold i_iadd at hk
  split at hk
  · next b a r =>
    have k := hK _ _ _ hk p e s m args below meth c R H locs cls C A
    simp only [List.map_cons, cv, Int32.ofInt_add] at k ⊢
    exact lv_iadd C.exec C.code hd k
  · exact hk.elim
def i_isub : Tr := fun _ _ _ _ _ ls st h K => match st with
  | .inl b :: .inl a :: r => K ls (vI (a - b) :: r) h
  | _ => False
theorem sd_isub {i pc : Nat} (hd : decode (mi i).2.1 pc = .ok (.isub, 1)) : Sd i pc 1 i_isub := by
  intro l s0 d Q J K ls st h hk hJ hK p e s m args below meth c R H locs cls C A
  unfold i_isub at hk
  split at hk
  · next b a r =>
    have k := hK _ _ _ hk p e s m args below meth c R H locs cls C A
    simp only [List.map_cons, cv, Int32.ofInt_sub] at k ⊢
    exact lv_isub C.exec C.code hd k
  · exact hk.elim
def i_imul : Tr := fun _ _ _ _ _ ls st h K => match st with
  | .inl b :: .inl a :: r => K ls (vI (a * b) :: r) h
  | _ => False
theorem sd_imul {i pc : Nat} (hd : decode (mi i).2.1 pc = .ok (.imul, 1)) : Sd i pc 1 i_imul := by
  intro l s0 d Q J K ls st h hk hJ hK p e s m args below meth c R H locs cls C A
  unfold i_imul at hk
  split at hk
  · next b a r =>
    have k := hK _ _ _ hk p e s m args below meth c R H locs cls C A
    simp only [List.map_cons, cv, Int32.ofInt_mul] at k ⊢
    exact lv_imul C.exec C.code hd k
  · exact hk.elim
def i_iand : Tr := fun _ _ _ _ _ ls st h K => match st with
  | .inl b :: .inl a :: r => K ls (vI ((Int32.ofInt a &&& Int32.ofInt b).toInt) :: r) h
  | _ => False
theorem sd_iand {i pc : Nat} (hd : decode (mi i).2.1 pc = .ok (.iand, 1)) : Sd i pc 1 i_iand := by
  intro l s0 d Q J K ls st h hk hJ hK p e s m args below meth c R H locs cls C A
  unfold i_iand at hk
  split at hk
  · next b a r =>
    have k := hK _ _ _ hk p e s m args below meth c R H locs cls C A
    simp only [List.map_cons, cv, Int32.ofInt_toInt] at k ⊢
    exact lv_iand C.exec C.code hd k
  · exact hk.elim
def i_ior : Tr := fun _ _ _ _ _ ls st h K => match st with
  | .inl b :: .inl a :: r => K ls (vI ((Int32.ofInt a ||| Int32.ofInt b).toInt) :: r) h
  | _ => False
theorem sd_ior {i pc : Nat} (hd : decode (mi i).2.1 pc = .ok (.ior, 1)) : Sd i pc 1 i_ior := by
  intro l s0 d Q J K ls st h hk hJ hK p e s m args below meth c R H locs cls C A
  unfold i_ior at hk
  split at hk
  · next b a r =>
    have k := hK _ _ _ hk p e s m args below meth c R H locs cls C A
    simp only [List.map_cons, cv, Int32.ofInt_toInt] at k ⊢
    exact lv_ior C.exec C.code hd k
  · exact hk.elim
def i_ishl : Tr := fun _ _ _ _ _ ls st h K => match st with
  | .inl b :: .inl a :: r => K ls (vI ((Int32.ofInt a <<< (Int32.ofInt b &&& 31)).toInt) :: r) h
  | _ => False
theorem sd_ishl {i pc : Nat} (hd : decode (mi i).2.1 pc = .ok (.ishl, 1)) : Sd i pc 1 i_ishl := by
  intro l s0 d Q J K ls st h hk hJ hK p e s m args below meth c R H locs cls C A
  unfold i_ishl at hk
  split at hk
  · next b a r =>
    have k := hK _ _ _ hk p e s m args below meth c R H locs cls C A
    simp only [List.map_cons, cv, Int32.ofInt_toInt] at k ⊢
    exact lv_ishl C.exec C.code hd k
  · exact hk.elim
def i_ishr : Tr := fun _ _ _ _ _ ls st h K => match st with
  | .inl b :: .inl a :: r => K ls (vI ((Int32.ofInt a >>> (Int32.ofInt b &&& 31)).toInt) :: r) h
  | _ => False
theorem sd_ishr {i pc : Nat} (hd : decode (mi i).2.1 pc = .ok (.ishr, 1)) : Sd i pc 1 i_ishr := by
  intro l s0 d Q J K ls st h hk hJ hK p e s m args below meth c R H locs cls C A
  unfold i_ishr at hk
  split at hk
  · next b a r =>
    have k := hK _ _ _ hk p e s m args below meth c R H locs cls C A
    simp only [List.map_cons, cv, Int32.ofInt_toInt] at k ⊢
    exact lv_ishr C.exec C.code hd k
  · exact hk.elim
theorem tdiv_nn {a b : Int} (ha : 0 ≤ a) : a.tdiv b = a / b := Int.tdiv_eq_ediv_of_nonneg ha
theorem i32_div {a b : Int} (ha : rg a) (h0 : 0 ≤ a) (hb : rg b) (h1 : 0 < b) : Int32.ofInt a / Int32.ofInt b = Int32.ofInt (a / b) := by
  apply Int32.toInt_inj.mp
  have hbn : Int32.ofInt b ≠ -1 := by
    intro e
    have := congrArg Int32.toInt e
    rw [rg_toInt hb] at this
    have h2 : (-1 : Int32).toInt = -1 := by decide
    omega
  have hq : rg (a / b) := by
    have h3 : a / b ≤ a := Int.ediv_le_self b h0
    have h4 : 0 ≤ a / b := Int.ediv_nonneg h0 (by omega)
    exact ⟨by omega, by have := ha.2; omega⟩
  rw [Int32.toInt_div_of_ne_right _ _ hbn, rg_toInt ha, rg_toInt hb, rg_toInt hq, tdiv_nn h0]
def i_idiv : Tr := fun _ _ _ _ _ ls st h K => match st with
  | .inl b :: .inl a :: r => (rg a ∧ 0 ≤ a ∧ rg b ∧ 0 < b) ∧ K ls (vI (a / b) :: r) h
  | _ => False
theorem sd_idiv {i pc : Nat} (hd : decode (mi i).2.1 pc = .ok (.idiv, 1)) : Sd i pc 1 i_idiv := by
  intro l s0 d Q J K ls st h hk hJ hK p e s m args below meth c R H locs cls C A
  unfold i_idiv at hk
  split at hk
  · next b a r =>
    obtain ⟨⟨s1, s2, s3, s4⟩, hk⟩ := hk
    have k := hK _ _ _ hk p e s m args below meth c R H locs cls C A
    have hne : ¬ Int32.ofInt b = 0 := by
      intro e
      have := congrArg Int32.toInt e
      rw [rg_toInt s3] at this
      have h2 : (0 : Int32).toInt = 0 := by decide
      omega
    refine lv_idiv C.exec C.code hd hne ?_
    rw [i32_div s1 s2 s3 s4]
    exact k
  · exact hk.elim
def i_irem : Tr := fun _ _ _ _ _ ls st h K => match st with
  | .inl b :: .inl a :: r => (rg a ∧ 0 ≤ a ∧ rg b ∧ 0 < b) ∧ K ls (vI (a % b) :: r) h
  | _ => False
theorem sd_irem {i pc : Nat} (hd : decode (mi i).2.1 pc = .ok (.irem, 1)) : Sd i pc 1 i_irem := by
  intro l s0 d Q J K ls st h hk hJ hK p e s m args below meth c R H locs cls C A
  unfold i_irem at hk
  split at hk
  · next b a r =>
    obtain ⟨⟨s1, s2, s3, s4⟩, hk⟩ := hk
    have k := hK _ _ _ hk p e s m args below meth c R H locs cls C A
    have hne : ¬ Int32.ofInt b = 0 := by
      intro e
      have := congrArg Int32.toInt e
      rw [rg_toInt s3] at this
      have h2 : (0 : Int32).toInt = 0 := by decide
      omega
    refine lv_irem C.exec C.code hd hne ?_
    have e1 : Int32.ofInt a - Int32.ofInt a / Int32.ofInt b * Int32.ofInt b = Int32.ofInt (a % b) := by
      rw [i32_div s1 s2 s3 s4, ← Int32.ofInt_mul, ← Int32.ofInt_sub]
      congr 1
      rw [Int.emod_def, Int.mul_comm]
    rw [e1]
    exact k
  · exact hk.elim
def i_ineg : Tr := fun _ _ _ _ _ ls st h K => match st with
  | .inl a :: r => K ls (vI (-a) :: r) h
  | _ => False
theorem sd_ineg {i pc : Nat} (hd : decode (mi i).2.1 pc = .ok (.ineg, 1)) : Sd i pc 1 i_ineg := by
  intro l s0 d Q J K ls st h hk hJ hK p e s m args below meth c R H locs cls C A
  unfold i_ineg at hk
  split at hk
  · next a r =>
    have k := hK _ _ _ hk p e s m args below meth c R H locs cls C A
    simp only [List.map_cons, cv, Int32.ofInt_neg] at k ⊢
    exact lv_ineg C.exec C.code hd k
  · exact hk.elim
theorem i2l_ok {a : Int} (h : rg a) : (Int32.ofInt a).toInt64 = Int64.ofInt a := by
  rw [← Int64.ofInt_int32ToInt, rg_toInt h]
def i_i2l : Tr := fun _ _ _ _ _ ls st h K => match st with
  | .inl a :: r => rg a ∧ K ls (vL a :: r) h
  | _ => False
theorem sd_i2l {i pc : Nat} (hd : decode (mi i).2.1 pc = .ok (.i2l, 1)) : Sd i pc 1 i_i2l := by
  intro l s0 d Q J K ls st h hk hJ hK p e s m args below meth c R H locs cls C A
  unfold i_i2l at hk
  split at hk
  · next a r =>
    obtain ⟨s1, hk⟩ := hk
    have k := hK _ _ _ hk p e s m args below meth c R H locs cls C A
    exact lv_i2l C.exec C.code hd (i2l_ok s1) k
  · exact hk.elim
theorem l2i_ok (a : Int) : (Int64.ofInt a).toInt32 = Int32.ofInt a := by
  apply Int32.toInt_inj.mp
  rw [Int64.toInt_toInt32, Int64.toInt_ofInt, Int32.toInt_ofInt]
  exact Int.bmod_bmod_of_dvd (by decide)
def i_l2i : Tr := fun _ _ _ _ _ ls st h K => match st with
  | .inr (.inr a) :: r => K ls (vI a :: r) h
  | _ => False
theorem sd_l2i {i pc : Nat} (hd : decode (mi i).2.1 pc = .ok (.l2i, 1)) : Sd i pc 1 i_l2i := by
  intro l s0 d Q J K ls st h hk hJ hK p e s m args below meth c R H locs cls C A
  unfold i_l2i at hk
  split at hk
  · next a r =>
    have k := hK _ _ _ hk p e s m args below meth c R H locs cls C A
    exact lv_l2i C.exec C.code hd (l2i_ok a) k
  · exact hk.elim
theorem i2c_ok {a : Int} (h0 : 0 ≤ a) (h1 : a < 65536) : ((Int32.ofInt a).toUInt32 % 65536).toInt32 = Int32.ofInt a := by
  obtain ⟨n, rfl⟩ := Int.eq_ofNat_of_zero_le h0
  have hn : n < 65536 := by omega
  have e : Int32.ofInt (n : Int) = nI n := Int32.ofInt_eq_ofNat
  have : (Int32.ofInt (Int.ofNat n)) = nI n := e
  show ((Int32.ofInt (n : Int)).toUInt32 % 65536).toInt32 = Int32.ofInt (n : Int)
  rw [e, pk_char, pk_tn (by omega), Nat.mod_eq_of_lt hn]
def i_i2c : Tr := fun _ _ _ _ _ ls st h K => match st with
  | .inl a :: r => (0 ≤ a ∧ a < 65536) ∧ K ls (vI a :: r) h
  | _ => False
theorem sd_i2c {i pc : Nat} (hd : decode (mi i).2.1 pc = .ok (.i2c, 1)) : Sd i pc 1 i_i2c := by
  intro l s0 d Q J K ls st h hk hJ hK p e s m args below meth c R H locs cls C A
  unfold i_i2c at hk
  split at hk
  · next a r =>
    obtain ⟨⟨s1, s2⟩, hk⟩ := hk
    have k := hK _ _ _ hk p e s m args below meth c R H locs cls C A
    exact lv_i2c C.exec C.code hd (i2c_ok s1 s2) k
  · exact hk.elim
theorem i2b_ok {a : Int} (h0 : -128 ≤ a) (h1 : a < 128) : (Int32.ofInt a).toInt8.toInt32 = Int32.ofInt a := by
  apply Int32.toInt_inj.mp
  have hr : rg a := ⟨by omega, by omega⟩
  rw [Int8.toInt_toInt32, Int32.toInt_toInt8, rg_toInt hr]
  exact Int.bmod_eq_of_le (by omega) (by omega)
def i_i2b : Tr := fun _ _ _ _ _ ls st h K => match st with
  | .inl a :: r => (-128 ≤ a ∧ a < 128) ∧ K ls (vI a :: r) h
  | _ => False
theorem sd_i2b {i pc : Nat} (hd : decode (mi i).2.1 pc = .ok (.i2b, 1)) : Sd i pc 1 i_i2b := by
  intro l s0 d Q J K ls st h hk hJ hK p e s m args below meth c R H locs cls C A
  unfold i_i2b at hk
  split at hk
  · next a r =>
    obtain ⟨⟨s1, s2⟩, hk⟩ := hk
    have k := hK _ _ _ hk p e s m args below meth c R H locs cls C A
    exact lv_i2b C.exec C.code hd (i2b_ok s1 s2) k
  · exact hk.elim
def i_land : Tr := fun _ _ _ _ _ ls st h K => match st with
  | .inr (.inr b) :: .inr (.inr a) :: r => K ls (vL ((Int64.ofInt a &&& Int64.ofInt b).toInt) :: r) h
  | _ => False
theorem sd_land {i pc : Nat} (hd : decode (mi i).2.1 pc = .ok (.land, 1)) : Sd i pc 1 i_land := by
  intro l s0 d Q J K ls st h hk hJ hK p e s m args below meth c R H locs cls C A
  unfold i_land at hk
  split at hk
  · next b a r =>
    have k := hK _ _ _ hk p e s m args below meth c R H locs cls C A
    simp only [List.map_cons, cv, Int64.ofInt_toInt] at k ⊢
    exact lv_land C.exec C.code hd k
  · exact hk.elim
def i_lor : Tr := fun _ _ _ _ _ ls st h K => match st with
  | .inr (.inr b) :: .inr (.inr a) :: r => K ls (vL ((Int64.ofInt a ||| Int64.ofInt b).toInt) :: r) h
  | _ => False
theorem sd_lor {i pc : Nat} (hd : decode (mi i).2.1 pc = .ok (.lor, 1)) : Sd i pc 1 i_lor := by
  intro l s0 d Q J K ls st h hk hJ hK p e s m args below meth c R H locs cls C A
  unfold i_lor at hk
  split at hk
  · next b a r =>
    have k := hK _ _ _ hk p e s m args below meth c R H locs cls C A
    simp only [List.map_cons, cv, Int64.ofInt_toInt] at k ⊢
    exact lv_lor C.exec C.code hd k
  · exact hk.elim
def i_lshl : Tr := fun _ _ _ _ _ ls st h K => match st with
  | .inl b :: .inr (.inr a) :: r => K ls (vL ((Int64.ofInt a <<< ((Int32.ofInt b).toInt64 &&& 63)).toInt) :: r) h
  | _ => False
theorem sd_lshl {i pc : Nat} (hd : decode (mi i).2.1 pc = .ok (.lshl, 1)) : Sd i pc 1 i_lshl := by
  intro l s0 d Q J K ls st h hk hJ hK p e s m args below meth c R H locs cls C A
  unfold i_lshl at hk
  split at hk
  · next b a r =>
    have k := hK _ _ _ hk p e s m args below meth c R H locs cls C A
    simp only [List.map_cons, cv, Int64.ofInt_toInt] at k ⊢
    exact lv_lshl C.exec C.code hd rfl k
  · exact hk.elim
def i_lshr : Tr := fun _ _ _ _ _ ls st h K => match st with
  | .inl b :: .inr (.inr a) :: r => K ls (vL ((Int64.ofInt a >>> ((Int32.ofInt b).toInt64 &&& 63)).toInt) :: r) h
  | _ => False
theorem sd_lshr {i pc : Nat} (hd : decode (mi i).2.1 pc = .ok (.lshr, 1)) : Sd i pc 1 i_lshr := by
  intro l s0 d Q J K ls st h hk hJ hK p e s m args below meth c R H locs cls C A
  unfold i_lshr at hk
  split at hk
  · next b a r =>
    have k := hK _ _ _ hk p e s m args below meth c R H locs cls C A
    simp only [List.map_cons, cv, Int64.ofInt_toInt] at k ⊢
    exact lv_lshr C.exec C.code hd rfl k
  · exact hk.elim
def i_lushr : Tr := fun _ _ _ _ _ ls st h K => match st with
  | .inl b :: .inr (.inr a) :: r => K ls (vL ((((Int64.ofInt a).toUInt64 >>> ((Int32.ofInt b).toInt64.toUInt64 &&& Int64.toUInt64 63)).toInt64).toInt) :: r) h
  | _ => False
theorem sd_lushr {i pc : Nat} (hd : decode (mi i).2.1 pc = .ok (.lushr, 1)) : Sd i pc 1 i_lushr := by
  intro l s0 d Q J K ls st h hk hJ hK p e s m args below meth c R H locs cls C A
  unfold i_lushr at hk
  split at hk
  · next b a r =>
    have k := hK _ _ _ hk p e s m args below meth c R H locs cls C A
    simp only [List.map_cons, cv, Int64.ofInt_toInt] at k ⊢
    exact lv_lushr C.exec C.code hd rfl k
  · exact hk.elim
/-- in the range of a long -/
def rl (z : Int) : Prop := -9223372036854775808 ≤ z ∧ z < 9223372036854775808
theorem rl_toInt {z : Int} (h : rl z) : (Int64.ofInt z).toInt = z := Int64.toInt_ofInt_of_le h.1 h.2
def sgl (a b : Int) : Int := if b < a then 1 else if a = b then 0 else -1
theorem sgl_ok {a b : Int} (ha : rl a) (hb : rl b) : lg_cmp (Int64.ofInt a) (Int64.ofInt b) = Int32.ofInt (sgl a b) := by
  unfold lg_cmp sgl
  simp only [gt_iff_lt, Int64.lt_iff_toInt_lt, ← Int64.toInt_inj, rl_toInt ha, rl_toInt hb]
  split
  · rfl
  · split
    · rfl
    · rfl
def i_lcmp : Tr := fun _ _ _ _ _ ls st h K => match st with
  | .inr (.inr b) :: .inr (.inr a) :: r => (rl a ∧ rl b) ∧ K ls (vI (sgl a b) :: r) h
  | _ => False
theorem sd_lcmp {i pc : Nat} (hd : decode (mi i).2.1 pc = .ok (.lcmp, 1)) : Sd i pc 1 i_lcmp := by
  intro l s0 d Q J K ls st h hk hJ hK p e s m args below meth c R H locs cls C A
  unfold i_lcmp at hk
  split at hk
  · next b a r =>
    obtain ⟨⟨s1, s2⟩, hk⟩ := hk
    have k := hK _ _ _ hk p e s m args below meth c R H locs cls C A
    refine W.lcmp C.exec C.code hd ?_
    rw [sgl_ok s1 s2]
    exact k
  · exact hk.elim
def w1 (v : AV) : Bool := match v with
  | .inr (.inr _) => false
  | _ => true
theorem w1_cat {v : AV} (h : w1 v = true) : (cv v).category = 1 := by
  match v, h with
  | .inl z, _ => rfl
  | .inr (.inl 0), _ => rfl
  | .inr (.inl (a + 1)), _ => rfl
def i_dup : Tr := fun _ _ _ _ _ ls st h K => match st with
  | v :: r => w1 v = true ∧ K ls (v :: v :: r) h
  | _ => False
theorem sd_dup {i pc : Nat} (hd : decode (mi i).2.1 pc = .ok (.dup, 1)) : Sd i pc 1 i_dup := by
  intro l s0 d Q J K ls st h hk hJ hK p e s m args below meth c R H locs cls C A
  unfold i_dup at hk
  split at hk
  · obtain ⟨hv, hk⟩ := hk
    exact lv_dup C.exec C.code hd (w1_cat hv) (hK _ _ _ hk p e s m args below meth c R H locs cls C A)
  · exact hk.elim
def i_pop : Tr := fun _ _ _ _ _ ls st h K => match st with
  | v :: r => w1 v = true ∧ K ls (r) h
  | _ => False
theorem sd_pop {i pc : Nat} (hd : decode (mi i).2.1 pc = .ok (.pop, 1)) : Sd i pc 1 i_pop := by
  intro l s0 d Q J K ls st h hk hJ hK p e s m args below meth c R H locs cls C A
  unfold i_pop at hk
  split at hk
  · obtain ⟨hv, hk⟩ := hk
    exact lv_pop C.exec C.code hd (w1_cat hv) (hK _ _ _ hk p e s m args below meth c R H locs cls C A)
  · exact hk.elim
def i_dup_x1 : Tr := fun _ _ _ _ _ ls st h K => match st with
  | v :: u :: r => w1 v = true ∧ w1 u = true ∧ K ls (v :: u :: v :: r) h
  | _ => False
theorem sd_dup_x1 {i pc : Nat} (hd : decode (mi i).2.1 pc = .ok (.dup_x1, 1)) : Sd i pc 1 i_dup_x1 := by
  intro l s0 d Q J K ls st h hk hJ hK p e s m args below meth c R H locs cls C A
  unfold i_dup_x1 at hk
  split at hk
  · obtain ⟨hv, hu, hk⟩ := hk
    exact lv_dup_x1 C.exec C.code hd (w1_cat hv) (w1_cat hu) (hK _ _ _ hk p e s m args below meth c R H locs cls C A)
  · exact hk.elim
def i_dup_x2 : Tr := fun _ _ _ _ _ ls st h K => match st with
  | v :: u :: w :: r => w1 v = true ∧ w1 u = true ∧ w1 w = true ∧ K ls (v :: u :: w :: v :: r) h
  | _ => False
theorem sd_dup_x2 {i pc : Nat} (hd : decode (mi i).2.1 pc = .ok (.dup_x2, 1)) : Sd i pc 1 i_dup_x2 := by
  intro l s0 d Q J K ls st h hk hJ hK p e s m args below meth c R H locs cls C A
  unfold i_dup_x2 at hk
  split at hk
  · obtain ⟨hv, hu, hw, hk⟩ := hk
    exact lv_dup_x2 C.exec C.code hd (w1_cat hv) (w1_cat hu) (w1_cat hw) (hK _ _ _ hk p e s m args below meth c R H locs cls C A)
  · exact hk.elim
def i_dup2 : Tr := fun _ _ _ _ _ ls st h K => match st with
  | v :: u :: r => w1 v = true ∧ w1 u = true ∧ K ls (v :: u :: v :: u :: r) h
  | _ => False
theorem sd_dup2 {i pc : Nat} (hd : decode (mi i).2.1 pc = .ok (.dup2, 1)) : Sd i pc 1 i_dup2 := by
  intro l s0 d Q J K ls st h hk hJ hK p e s m args below meth c R H locs cls C A
  unfold i_dup2 at hk
  split at hk
  · obtain ⟨hv, hu, hk⟩ := hk
    exact lv_dup2_11 C.exec C.code hd (w1_cat hv) (w1_cat hu) (hK _ _ _ hk p e s m args below meth c R H locs cls C A)
  · exact hk.elim
def i_ceq (t : Nat) : Tr := fun _ _ _ _ J ls st h K => match st with
  | .inl b :: .inl a :: r => (rg a ∧ rg b) ∧ (a = b → J t ls r h) ∧ (¬ a = b → K ls r h)
  | _ => False
theorem sd_icmp_eq {i pc t : Nat} {off : Int} (hd : decode (mi i).2.1 pc = .ok (.if_icmp .eq off, 3)) (ht : (pc : Int) + off = (t : Int)) : Sd i pc 3 (i_ceq t) := by
  intro l s0 d Q J K ls st h hk hJ hK p e s m args below meth c R H locs cls C A
  unfold i_ceq at hk
  split at hk
  · next b a r =>
    obtain ⟨⟨ha, hb⟩, hk⟩ := hk
    exact lv_icmp_eq C.exec C.code hd ht (fun q => hJ _ _ _ _ (hk.1 ((rg_eq ha hb).mp q)) p e s m args below meth c R H locs cls C A) (fun q => hK _ _ _ (hk.2 (fun z => q ((rg_eq ha hb).mpr z))) p e s m args below meth c R H locs cls C A)
  · exact hk.elim
def i_cne (t : Nat) : Tr := fun _ _ _ _ J ls st h K => match st with
  | .inl b :: .inl a :: r => (rg a ∧ rg b) ∧ (¬ a = b → J t ls r h) ∧ (a = b → K ls r h)
  | _ => False
theorem sd_icmp_ne {i pc t : Nat} {off : Int} (hd : decode (mi i).2.1 pc = .ok (.if_icmp .ne off, 3)) (ht : (pc : Int) + off = (t : Int)) : Sd i pc 3 (i_cne t) := by
  intro l s0 d Q J K ls st h hk hJ hK p e s m args below meth c R H locs cls C A
  unfold i_cne at hk
  split at hk
  · next b a r =>
    obtain ⟨⟨ha, hb⟩, hk⟩ := hk
    exact lv_icmp_ne C.exec C.code hd ht (fun q => hJ _ _ _ _ (hk.1 (fun z => q ((rg_eq ha hb).mpr z))) p e s m args below meth c R H locs cls C A) (fun q => hK _ _ _ (hk.2 ((rg_eq ha hb).mp q)) p e s m args below meth c R H locs cls C A)
  · exact hk.elim
def i_clt (t : Nat) : Tr := fun _ _ _ _ J ls st h K => match st with
  | .inl b :: .inl a :: r => (rg a ∧ rg b) ∧ (a < b → J t ls r h) ∧ (¬ a < b → K ls r h)
  | _ => False
theorem sd_icmp_lt {i pc t : Nat} {off : Int} (hd : decode (mi i).2.1 pc = .ok (.if_icmp .lt off, 3)) (ht : (pc : Int) + off = (t : Int)) : Sd i pc 3 (i_clt t) := by
  intro l s0 d Q J K ls st h hk hJ hK p e s m args below meth c R H locs cls C A
  unfold i_clt at hk
  split at hk
  · next b a r =>
    obtain ⟨⟨ha, hb⟩, hk⟩ := hk
    exact lv_icmp_lt C.exec C.code hd ht (fun q => hJ _ _ _ _ (hk.1 ((rg_lt ha hb).mp q)) p e s m args below meth c R H locs cls C A) (fun q => hK _ _ _ (hk.2 (fun z => q ((rg_lt ha hb).mpr z))) p e s m args below meth c R H locs cls C A)
  · exact hk.elim
def i_cge (t : Nat) : Tr := fun _ _ _ _ J ls st h K => match st with
  | .inl b :: .inl a :: r => (rg a ∧ rg b) ∧ (b ≤ a → J t ls r h) ∧ (¬ b ≤ a → K ls r h)
  | _ => False
theorem sd_icmp_ge {i pc t : Nat} {off : Int} (hd : decode (mi i).2.1 pc = .ok (.if_icmp .ge off, 3)) (ht : (pc : Int) + off = (t : Int)) : Sd i pc 3 (i_cge t) := by
  intro l s0 d Q J K ls st h hk hJ hK p e s m args below meth c R H locs cls C A
  unfold i_cge at hk
  split at hk
  · next b a r =>
    obtain ⟨⟨ha, hb⟩, hk⟩ := hk
    exact lv_icmp_ge C.exec C.code hd ht (fun q => hJ _ _ _ _ (hk.1 ((rg_le hb ha).mp q)) p e s m args below meth c R H locs cls C A) (fun q => hK _ _ _ (hk.2 (fun z => q ((rg_le hb ha).mpr z))) p e s m args below meth c R H locs cls C A)
  · exact hk.elim
def i_cgt (t : Nat) : Tr := fun _ _ _ _ J ls st h K => match st with
  | .inl b :: .inl a :: r => (rg a ∧ rg b) ∧ (b < a → J t ls r h) ∧ (¬ b < a → K ls r h)
  | _ => False
theorem sd_icmp_gt {i pc t : Nat} {off : Int} (hd : decode (mi i).2.1 pc = .ok (.if_icmp .gt off, 3)) (ht : (pc : Int) + off = (t : Int)) : Sd i pc 3 (i_cgt t) := by
  intro l s0 d Q J K ls st h hk hJ hK p e s m args below meth c R H locs cls C A
  unfold i_cgt at hk
  split at hk
  · next b a r =>
    obtain ⟨⟨ha, hb⟩, hk⟩ := hk
    exact lv_icmp_gt C.exec C.code hd ht (fun q => hJ _ _ _ _ (hk.1 ((rg_lt hb ha).mp q)) p e s m args below meth c R H locs cls C A) (fun q => hK _ _ _ (hk.2 (fun z => q ((rg_lt hb ha).mpr z))) p e s m args below meth c R H locs cls C A)
  · exact hk.elim
def i_cle (t : Nat) : Tr := fun _ _ _ _ J ls st h K => match st with
  | .inl b :: .inl a :: r => (rg a ∧ rg b) ∧ (a ≤ b → J t ls r h) ∧ (¬ a ≤ b → K ls r h)
  | _ => False
theorem sd_icmp_le {i pc t : Nat} {off : Int} (hd : decode (mi i).2.1 pc = .ok (.if_icmp .le off, 3)) (ht : (pc : Int) + off = (t : Int)) : Sd i pc 3 (i_cle t) := by
  intro l s0 d Q J K ls st h hk hJ hK p e s m args below meth c R H locs cls C A
  unfold i_cle at hk
  split at hk
  · next b a r =>
    obtain ⟨⟨ha, hb⟩, hk⟩ := hk
    exact lv_icmp_le C.exec C.code hd ht (fun q => hJ _ _ _ _ (hk.1 ((rg_le ha hb).mp q)) p e s m args below meth c R H locs cls C A) (fun q => hK _ _ _ (hk.2 (fun z => q ((rg_le ha hb).mpr z))) p e s m args below meth c R H locs cls C A)
  · exact hk.elim
theorem rg_0 : rg 0 := ⟨by decide, by decide⟩
def i_zeq (t : Nat) : Tr := fun _ _ _ _ J ls st h K => match st with
  | .inl a :: r => rg a ∧ (a = 0 → J t ls r h) ∧ (¬ a = 0 → K ls r h)
  | _ => False
theorem sd_if_eq {i pc t : Nat} {off : Int} (hd : decode (mi i).2.1 pc = .ok (.ifCond .eq off, 3)) (ht : (pc : Int) + off = (t : Int)) : Sd i pc 3 (i_zeq t) := by
  intro l s0 d Q J K ls st h hk hJ hK p e s m args below meth c R H locs cls C A
  unfold i_zeq at hk
  split at hk
  · next a r =>
    obtain ⟨ha, hk⟩ := hk
    exact lv_if_eq C.exec C.code hd ht (fun q => hJ _ _ _ _ (hk.1 ((rg_eq ha rg_0).mp q)) p e s m args below meth c R H locs cls C A) (fun q => hK _ _ _ (hk.2 (fun z => q ((rg_eq ha rg_0).mpr z))) p e s m args below meth c R H locs cls C A)
  · exact hk.elim
def i_zne (t : Nat) : Tr := fun _ _ _ _ J ls st h K => match st with
  | .inl a :: r => rg a ∧ (¬ a = 0 → J t ls r h) ∧ (a = 0 → K ls r h)
  | _ => False
theorem sd_if_ne {i pc t : Nat} {off : Int} (hd : decode (mi i).2.1 pc = .ok (.ifCond .ne off, 3)) (ht : (pc : Int) + off = (t : Int)) : Sd i pc 3 (i_zne t) := by
  intro l s0 d Q J K ls st h hk hJ hK p e s m args below meth c R H locs cls C A
  unfold i_zne at hk
  split at hk
  · next a r =>
    obtain ⟨ha, hk⟩ := hk
    exact lv_if_ne C.exec C.code hd ht (fun q => hJ _ _ _ _ (hk.1 (fun z => q ((rg_eq ha rg_0).mpr z))) p e s m args below meth c R H locs cls C A) (fun q => hK _ _ _ (hk.2 ((rg_eq ha rg_0).mp q)) p e s m args below meth c R H locs cls C A)
  · exact hk.elim
def i_zlt (t : Nat) : Tr := fun _ _ _ _ J ls st h K => match st with
  | .inl a :: r => rg a ∧ (a < 0 → J t ls r h) ∧ (¬ a < 0 → K ls r h)
  | _ => False
theorem sd_if_lt {i pc t : Nat} {off : Int} (hd : decode (mi i).2.1 pc = .ok (.ifCond .lt off, 3)) (ht : (pc : Int) + off = (t : Int)) : Sd i pc 3 (i_zlt t) := by
  intro l s0 d Q J K ls st h hk hJ hK p e s m args below meth c R H locs cls C A
  unfold i_zlt at hk
  split at hk
  · next a r =>
    obtain ⟨ha, hk⟩ := hk
    exact lv_if_lt C.exec C.code hd ht (fun q => hJ _ _ _ _ (hk.1 ((rg_lt ha rg_0).mp q)) p e s m args below meth c R H locs cls C A) (fun q => hK _ _ _ (hk.2 (fun z => q ((rg_lt ha rg_0).mpr z))) p e s m args below meth c R H locs cls C A)
  · exact hk.elim
def i_zge (t : Nat) : Tr := fun _ _ _ _ J ls st h K => match st with
  | .inl a :: r => rg a ∧ (0 ≤ a → J t ls r h) ∧ (¬ 0 ≤ a → K ls r h)
  | _ => False
theorem sd_if_ge {i pc t : Nat} {off : Int} (hd : decode (mi i).2.1 pc = .ok (.ifCond .ge off, 3)) (ht : (pc : Int) + off = (t : Int)) : Sd i pc 3 (i_zge t) := by
  intro l s0 d Q J K ls st h hk hJ hK p e s m args below meth c R H locs cls C A
  unfold i_zge at hk
  split at hk
  · next a r =>
    obtain ⟨ha, hk⟩ := hk
    exact lv_if_ge C.exec C.code hd ht (fun q => hJ _ _ _ _ (hk.1 ((rg_le rg_0 ha).mp q)) p e s m args below meth c R H locs cls C A) (fun q => hK _ _ _ (hk.2 (fun z => q ((rg_le rg_0 ha).mpr z))) p e s m args below meth c R H locs cls C A)
  · exact hk.elim
def i_zgt (t : Nat) : Tr := fun _ _ _ _ J ls st h K => match st with
  | .inl a :: r => rg a ∧ (0 < a → J t ls r h) ∧ (¬ 0 < a → K ls r h)
  | _ => False
theorem sd_if_gt {i pc t : Nat} {off : Int} (hd : decode (mi i).2.1 pc = .ok (.ifCond .gt off, 3)) (ht : (pc : Int) + off = (t : Int)) : Sd i pc 3 (i_zgt t) := by
  intro l s0 d Q J K ls st h hk hJ hK p e s m args below meth c R H locs cls C A
  unfold i_zgt at hk
  split at hk
  · next a r =>
    obtain ⟨ha, hk⟩ := hk
    exact lv_if_gt C.exec C.code hd ht (fun q => hJ _ _ _ _ (hk.1 ((rg_lt rg_0 ha).mp q)) p e s m args below meth c R H locs cls C A) (fun q => hK _ _ _ (hk.2 (fun z => q ((rg_lt rg_0 ha).mpr z))) p e s m args below meth c R H locs cls C A)
  · exact hk.elim
def i_zle (t : Nat) : Tr := fun _ _ _ _ J ls st h K => match st with
  | .inl a :: r => rg a ∧ (a ≤ 0 → J t ls r h) ∧ (¬ a ≤ 0 → K ls r h)
  | _ => False
theorem sd_if_le {i pc t : Nat} {off : Int} (hd : decode (mi i).2.1 pc = .ok (.ifCond .le off, 3)) (ht : (pc : Int) + off = (t : Int)) : Sd i pc 3 (i_zle t) := by
  intro l s0 d Q J K ls st h hk hJ hK p e s m args below meth c R H locs cls C A
  unfold i_zle at hk
  split at hk
  · next a r =>
    obtain ⟨ha, hk⟩ := hk
    exact lv_if_le C.exec C.code hd ht (fun q => hJ _ _ _ _ (hk.1 ((rg_le ha rg_0).mp q)) p e s m args below meth c R H locs cls C A) (fun q => hK _ _ _ (hk.2 (fun z => q ((rg_le ha rg_0).mpr z))) p e s m args below meth c R H locs cls C A)
  · exact hk.elim
def i_nul (t : Nat) : Tr := fun _ _ _ _ J ls st h K => match st with
  | .inr (.inl a) :: r => (a = 0 → J t ls r h) ∧ (¬ a = 0 → K ls r h)
  | _ => False
theorem sd_ifnull {i pc t : Nat} {off : Int} (hd : decode (mi i).2.1 pc = .ok (.ifnull off, 3)) (ht : (pc : Int) + off = (t : Int)) : Sd i pc 3 (i_nul t) := by
  intro l s0 d Q J K ls st h hk hJ hK p e s m args below meth c R H locs cls C A
  unfold i_nul at hk
  split at hk
  · next a r =>
    cases a with
    | zero => exact lv_ifnullN C.exec C.code hd ht (hJ _ _ _ _ (hk.1 rfl) p e s m args below meth c R H locs cls C A)
    | succ a => exact lv_ifnull C.exec C.code hd (hK _ _ _ (hk.2 (Nat.succ_ne_zero _)) p e s m args below meth c R H locs cls C A)
  · exact hk.elim
def i_nol (t : Nat) : Tr := fun _ _ _ _ J ls st h K => match st with
  | .inr (.inl a) :: r => (¬ a = 0 → J t ls r h) ∧ (a = 0 → K ls r h)
  | _ => False
theorem sd_ifnonnull {i pc t : Nat} {off : Int} (hd : decode (mi i).2.1 pc = .ok (.ifnonnull off, 3)) (ht : (pc : Int) + off = (t : Int)) : Sd i pc 3 (i_nol t) := by
  intro l s0 d Q J K ls st h hk hJ hK p e s m args below meth c R H locs cls C A
  unfold i_nol at hk
  split at hk
  · next a r =>
    cases a with
    | zero => exact lv_ifnonnullN C.exec C.code hd (hK _ _ _ (hk.2 rfl) p e s m args below meth c R H locs cls C A)
    | succ a => exact lv_ifnonnull C.exec C.code hd ht (hJ _ _ _ _ (hk.1 (Nat.succ_ne_zero _)) p e s m args below meth c R H locs cls C A)
  · exact hk.elim
def i_aeq (t : Nat) : Tr := fun _ _ _ _ J ls st h K => match st with
  | .inr (.inl b) :: .inr (.inl a) :: r => (a = b → J t ls r h) ∧ (¬ a = b → K ls r h)
  | _ => False
theorem sd_acmp_eq {i pc t : Nat} {off : Int} (hd : decode (mi i).2.1 pc = .ok (.if_acmp .eq off, 3)) (ht : (pc : Int) + off = (t : Int)) : Sd i pc 3 (i_aeq t) := by
  intro l s0 d Q J K ls st h hk hJ hK p e s m args below meth c R H locs cls C A
  unfold i_aeq at hk
  split at hk
  · next b a r =>
    simp only [List.map_cons, cv, cR_rf]
    exact lv_acmp_eq C.exec C.code hd ht (fun q => hJ _ _ _ _ (hk.1 ((po_eq a b).mp q)) p e s m args below meth c R H locs cls C A) (fun q => hK _ _ _ (hk.2 (fun z => q ((po_eq a b).mpr z))) p e s m args below meth c R H locs cls C A)
  · exact hk.elim
def i_ane (t : Nat) : Tr := fun _ _ _ _ J ls st h K => match st with
  | .inr (.inl b) :: .inr (.inl a) :: r => (¬ a = b → J t ls r h) ∧ (a = b → K ls r h)
  | _ => False
theorem sd_acmp_ne {i pc t : Nat} {off : Int} (hd : decode (mi i).2.1 pc = .ok (.if_acmp .ne off, 3)) (ht : (pc : Int) + off = (t : Int)) : Sd i pc 3 (i_ane t) := by
  intro l s0 d Q J K ls st h hk hJ hK p e s m args below meth c R H locs cls C A
  unfold i_ane at hk
  split at hk
  · next b a r =>
    simp only [List.map_cons, cv, cR_rf]
    exact lv_acmp_ne C.exec C.code hd ht (fun q => hJ _ _ _ _ (hk.1 (fun z => q ((po_eq a b).mpr z))) p e s m args below meth c R H locs cls C A) (fun q => hK _ _ _ (hk.2 ((po_eq a b).mp q)) p e s m args below meth c R H locs cls C A)
  · exact hk.elim
