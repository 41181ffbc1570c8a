/-! the pure side: how much is inside -/
def kcost {d : Nat} (j : KD d) : Nat := match j.2.2 with
  | none => 3
  | some w => 17 * (len d w.2 + 1)
def sumK {α : Type} (f : α → Nat) : List α → Nat
  | [] => 0
  | x :: r => f x + sumK f r
theorem sumK_app {α : Type} (f : α → Nat) : ∀ (a b : List α), sumK f (a ++ b) = sumK f a + sumK f b
  | [], b => by simp [sumK]
  | x :: a, b => by simp only [List.cons_append, sumK]; rw [sumK_app f a b]; omega
theorem sumK_le {α : Type} (f g : α → Nat) : ∀ (a : List α), (∀ x ∈ a, f x ≤ g x) → sumK f a ≤ sumK g a
  | [], _ => by simp [sumK]
  | x :: a, h => by
    have := sumK_le f g a (fun y hy => h y (List.mem_cons_of_mem _ hy))
    have := h x List.mem_cons_self
    simp only [sumK]; omega
theorem sumK_map {α β : Type} (f : β → Nat) (g : α → β) : ∀ (a : List α), sumK f (a.map g) = sumK (fun x => f (g x)) a
  | [] => rfl
  | x :: a => by simp only [List.map_cons, sumK]; rw [sumK_map f g a]
theorem sumK_const {α : Type} (n : Nat) : ∀ (a : List α), sumK (fun _ => n) a = n * a.length
  | [] => by simp [sumK]
  | x :: a => by simp only [sumK, List.length_cons]; rw [sumK_const n a, Nat.mul_add]; omega
theorem sum_zip {d : Nat} {lo : Bool} : ∀ (ys xs : List (Int × VT d)) (k : Nat), sumK (fun z : Int × VT d × VT d => 17 * (len d z.2.2 + 1)) (zipE lo xs ys k) ≤ 17 * sumL (fun x => mw false (len d x.2) + 1) ys
  | [], xs, k => by simp [zipE, sumK]
  | y :: ys, [], k => by simp [zipE, sumK]
  | y :: ys, x :: xs, k => by
    have := sum_zip (lo := lo) ys (if lo = true ∧ xs = [] then [x] else xs) (k + 1)
    simp only [zipE, sumK, sumL]
    have h2 : mw false (len d y.2) = len d y.2 := by simp [mw]
    rw [h2]
    omega
/-- each key finds a member of its own -/
theorem one_key {α : Type} (k : Int) (c : Nat) (F : Int × α → Nat) : ∀ (xs : List (Int × α)), (xs.map (fun x => x.1)).Nodup → sumK (fun x => if k = x.1 then c else F x) xs ≤ c + sumK F xs
  | [], _ => by simp [sumK]
  | x :: xs, h => by
    simp only [List.map_cons, List.nodup_cons] at h
    simp only [sumK]
    by_cases hk : k = x.1
    · rw [if_pos hk]
      have : sumK (fun x => if k = x.1 then c else F x) xs ≤ sumK F xs := by
        apply sumK_le
        intro y hy
        rw [if_neg]
        · exact Nat.le_refl _
        · intro e
          exact h.1 (by rw [← hk, e]; exact List.mem_map.mpr ⟨y, hy, rfl⟩)
      omega
    · rw [if_neg hk]
      have := one_key k c F xs h.2
      omega
def fcost {α : Type} (g : α → Nat) (ys : List (Int × α)) (x : Int × α) : Nat := match fnd ys x.1 with
  | none => 0
  | some v => g v
theorem own_key {α : Type} (g : α → Nat) (xs : List (Int × α)) (h : (xs.map (fun x => x.1)).Nodup) : ∀ (ys : List (Int × α)), sumK (fcost g ys) xs ≤ sumL (fun y => g y.2) ys
  | [] => by
    have : sumK (fcost g []) xs ≤ sumK (fun _ => 0) xs := sumK_le _ _ xs (fun x _ => by simp [fcost, fnd])
    rw [sumK_const] at this
    simp only [sumL]; omega
  | y :: ys => by
    have ih := own_key g xs h ys
    have h1 := one_key y.1 (g y.2) (fcost g ys) xs h
    have h2 : sumK (fcost g (y :: ys)) xs ≤ sumK (fun x => if y.1 = x.1 then g y.2 else fcost g ys x) xs := by
      apply sumK_le
      intro x _
      unfold fcost
      rw [fnd]
      split
      · next e => split at e <;> simp_all
      · next e => split at e <;> simp_all
    simp only [sumL]
    omega
theorem memK_cost {d : Nat} (ys : List (Int × VT d)) (x : Int × VT d) : kcost (memK ys x) ≤ 3 + fcost (fun v => 17 * (len d v + 1)) ys x := by
  unfold kcost memK fcost
  cases h : fnd ys x.1 with
  | none => simp
  | some v => simp
theorem sumK_add {α : Type} (f g : α → Nat) : ∀ (a : List α), sumK (fun x => f x + g x) a = sumK f a + sumK g a
  | [] => rfl
  | x :: a => by simp only [sumK]; rw [sumK_add f g a]; omega
theorem sumL_obj {d : Nat} : ∀ (ys : List (Int × VT d)), 17 * sumL (fun x => mw true (len d x.2) + 1) ys = sumL (fun y => 17 * (len d y.2 + 1)) ys + 68 * ys.length
  | [] => by simp [sumL]
  | y :: ys => by
    have := sumL_obj ys
    simp only [sumL, List.length_cons]
    have h2 : mw true (len d y.2) = len d y.2 + 4 := by simp [mw]
    rw [h2]
    omega
theorem unx_len {d : Nat} (xs ys : List (Int × VT d)) : (unx xs ys).length ≤ ys.length := by
  unfold unx
  rw [List.length_map]
  exact List.length_filter_le _ _
theorem unx_mem {d : Nat} {xs ys : List (Int × VT d)} {j : KD d} (h : j ∈ unx xs ys) : j.1 = 4 ∧ j.2.2 = none ∧ ∃ y ∈ ys, y.1 = j.2.1 ∧ fnd xs y.1 = none := by
  unfold unx at h
  rw [List.mem_map] at h
  obtain ⟨y, hy, rfl⟩ := h
  rw [List.mem_filter] at hy
  exact ⟨rfl, rfl, y, hy.1, rfl, by simpa using hy.2⟩
/-- what is inside: steps, values, how much -/
theorem kids_mem {rs : List RU} {st : Bool} {pl : List Int} {d : Nat} {e a : VT (d + 1)} (he : WF (d + 1) e) (ha : WF (d + 1) a) (la : len (d + 1) a ≤ 100) {j : KD d} (h : j ∈ kids rs st pl d e a) : PV j.2.1 ∧ ((j.1 = 3 ∨ j.1 = 4) ∧ j.2.2 = none ∨ j.1 = 0 ∧ ∃ u v, j.2.2 = some (u, v) ∧ WF d u ∧ WF d v ∧ (kids rs st pl d e a).length + len d u + len d v ≤ len (d + 1) e + len (d + 1) a ∧ len d u < len (d + 1) e ∧ len d v < len (d + 1) a) := by
  match e, a, he, ha, la, h with
  | .inl _, _, _, _, _, h => simp [kids] at h
  | .inr (false, _), .inl _, _, _, _, h => simp [kids] at h
  | .inr (true, _), .inl _, _, _, _, h => simp [kids] at h
  | .inr (false, _), .inr (true, _), _, _, _, h => simp [kids] at h
  | .inr (true, _), .inr (false, _), _, _, _, h => simp [kids] at h
  | .inr (false, xs), .inr (false, ys), he, ha, la, h =>
    simp only [kids] at h ⊢
    rw [List.mem_map] at h
    obtain ⟨z, hz, rfl⟩ := h
    obtain ⟨⟨x, h1, h1'⟩, ⟨y, h2, h2'⟩, h3, h4⟩ := zipE_mem ys xs 0 z hz
    have l1 := len_mem false h1
    have l2 := len_mem false h2
    have l3 := zipE_len (lo := lo rs pl) ys xs 0
    refine ⟨Or.inr ⟨by simp only; omega, by simp only; omega⟩, Or.inr ⟨rfl, z.2.1, z.2.2, rfl, by rw [h1']; exact (he.1 x h1).1, by rw [h2']; exact (ha.1 y h2).1, ?_, by rw [h1']; omega, by rw [h2']; omega⟩⟩
    rw [List.length_map, h1', h2']
    have : (zipE (lo rs pl) xs ys 0).length ≤ ys.length := by
      rw [l3]
      (repeat' split) <;> omega
    omega
  | .inr (true, xs), .inr (true, ys), he, ha, la, h =>
    simp only [kids] at h ⊢
    have hu : (if st = true then unx xs ys else []).length ≤ ys.length := by
      split
      · exact unx_len xs ys
      · simp
    rw [List.mem_append] at h
    rcases h with h | h
    · rw [List.mem_map] at h
      obtain ⟨x, hx, rfl⟩ := h
      have hk := (he.1 x hx).2.1 rfl
      unfold memK
      cases hf : fnd ys x.1 with
      | none => exact ⟨Or.inl hk, Or.inl ⟨Or.inl rfl, rfl⟩⟩
      | some v =>
        have hm := fnd_mem ys x.1 v hf
        have l1 := len_mem true hx
        have l2 := len_mem true hm
        refine ⟨Or.inl hk, Or.inr ⟨rfl, x.2, v, rfl, (he.1 x hx).1, (ha.1 _ hm).1, ?_, by omega, by simp only at l2; omega⟩⟩
        rw [List.length_append, List.length_map]
        simp only at l2
        omega
    · split at h
      · obtain ⟨h1, h2, y, hy, h3, h4⟩ := unx_mem h
        exact ⟨Or.inl (by rw [← h3]; exact (ha.1 y hy).2.1 rfl), Or.inl ⟨Or.inr h1, h2⟩⟩
      · simp at h
theorem kids_len {rs : List RU} {st : Bool} {pl : List Int} {d : Nat} {e a : VT (d + 1)} (he : WF (d + 1) e) (ha : WF (d + 1) a) : (kids rs st pl d e a).length ≤ len (d + 1) e + len (d + 1) a := by
  have hl : ∀ (b : Bool) (ms : List (Int × VT d)), ms.length ≤ len (d + 1) (.inr (b, ms)) := by
    intro b ms
    cases ms with
    | nil => simp
    | cons x r => have := len_mem (d := d) b (ms := x :: r) List.mem_cons_self; omega
  match e, a, he, ha with
  | .inl _, _, _, _ => simp [kids]
  | .inr (false, _), .inl _, _, _ => simp [kids]
  | .inr (true, _), .inl _, _, _ => simp [kids]
  | .inr (false, _), .inr (true, _), _, _ => simp [kids]
  | .inr (true, _), .inr (false, _), _, _ => simp [kids]
  | .inr (false, xs), .inr (false, ys), he, ha =>
    simp only [kids]
    rw [List.length_map, zipE_len]
    have := hl false ys
    (repeat' split) <;> omega
  | .inr (true, xs), .inr (true, ys), he, ha =>
    simp only [kids]
    have hu : (if st = true then unx xs ys else []).length ≤ ys.length := by
      split
      · exact unx_len xs ys
      · simp
    have h1 := hl true xs
    have h2 := hl true ys
    rw [List.length_append, List.length_map]
    omega
theorem kids_cost {rs : List RU} {st : Bool} {pl : List Int} {d : Nat} {e a : VT (d + 1)} (he : WF (d + 1) e) (ha : WF (d + 1) a) (le : len (d + 1) e ≤ 100) : 3 + sumK kcost (kids rs st pl d e a) ≤ 17 * (len (d + 1) a + 1) := by
  have lp := len_pos (d + 1) a ha
  have tr : 3 + 0 ≤ 17 * (len (d + 1) a + 1) := by omega
  match e, a, he, ha, le, lp, tr with
  | .inl _, _, _, _, _, _, tr => simpa [kids, sumK] using tr
  | .inr (false, _), .inl _, _, _, _, _, tr => simpa [kids, sumK] using tr
  | .inr (true, _), .inl _, _, _, _, _, tr => simpa [kids, sumK] using tr
  | .inr (false, _), .inr (true, _), _, _, _, _, tr => simpa [kids, sumK] using tr
  | .inr (true, _), .inr (false, _), _, _, _, _, tr => simpa [kids, sumK] using tr
  | .inr (false, xs), .inr (false, ys), he, ha, le, lp, tr =>
    simp only [kids]
    rw [sumK_map, len_gr]
    have h1 := sum_zip (lo := lo rs pl) ys xs 0
    have h2 : ∀ z : Int × VT d × VT d, kcost (d := d) (0, z.1, some z.2) = 17 * (len d z.2.2 + 1) := fun z => rfl
    simp only [h2]
    by_cases hy : ys = []
    · subst hy
      simp [zipE, sumK]
    · rw [if_neg hy]; omega
  | .inr (true, xs), .inr (true, ys), he, ha, le, lp, tr =>
    simp only [kids]
    rw [sumK_app, sumK_map, len_gr]
    have h1 := own_key (fun v => 17 * (len d v + 1)) xs (he.2 rfl) ys
    have h2 : sumK (fun x => kcost (memK ys x)) xs ≤ sumK (fun x => 3 + fcost (fun v => 17 * (len d v + 1)) ys x) xs := sumK_le _ _ xs (fun x _ => memK_cost ys x)
    rw [sumK_add, sumK_const] at h2
    have h3 : sumK kcost (if st = true then unx xs ys else []) ≤ 3 * ys.length := by
      split
      · have := sumK_le kcost (fun _ => 3) (unx xs ys) (fun j hj => by
          have := unx_mem hj
          unfold kcost
          rw [this.2.1]
          exact Nat.le_refl _)
        rw [sumK_const] at this
        have := unx_len xs ys
        omega
      · simp [sumK]
    have h4 := sumL_obj ys
    have h5 := sum_len true xs (fun x hx => (he.1 x hx).1)
    have h6 : xs.length ≤ 16 := by
      rw [len_gr] at le
      have : mw true 2 = 6 := rfl
      rw [this] at h5
      by_cases hx : xs = []
      · subst hx; simp
      · rw [if_neg hx] at le; omega
    by_cases hy : ys = []
    · subst hy
      simp only [sumL, List.length_nil] at h1 h3
      rw [if_pos rfl]
      omega
    · rw [if_neg hy]
      have : 1 ≤ ys.length := List.length_pos_iff.mpr hy
      omega
