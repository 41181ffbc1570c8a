/-! the pure side: texts, values, the reading of values -/
abbrev Tx : Type := Nat → Int
def VT : Nat → Type
  | 0 => List Int
  | d + 1 => List Int ⊕ (Bool × List (Int × VT d))
abbrev isL (c : Int) : Bool := decide (isLet c)
abbrev isD (c : Int) : Bool := decide (isDig c)
def opn (b : Bool) : Int := if b then 123 else 91
def clo (b : Bool) : Int := if b then 125 else 93
/-- how many signs from k on are so, up to n -/
def ldn (f : Int → Bool) (T : Tx) : Nat → Nat → Nat
  | 0, _ => 0
  | n + 1, k => if f (T k) = true then ldn f T n (k + 1) + 1 else 0
theorem ldn_le (f : Int → Bool) (T : Tx) : ∀ (n k : Nat), ldn f T n k ≤ n
  | 0, _ => Nat.le_refl 0
  | n + 1, k => by
    unfold ldn
    split
    · have := ldn_le f T n (k + 1); omega
    · omega
theorem ldn_in (f : Int → Bool) (T : Tx) : ∀ (n k j : Nat), j < ldn f T n k → f (T (k + j)) = true
  | 0, _, _, h => by simp [ldn] at h
  | n + 1, k, j, h => by
    unfold ldn at h
    split at h
    · next h1 =>
      cases j with
      | zero => exact h1
      | succ j =>
        have := ldn_in f T n (k + 1) j (by omega)
        rwa [show k + 1 + j = k + (j + 1) by omega] at this
    · omega
theorem ldn_out (f : Int → Bool) (T : Tx) : ∀ (n k : Nat), ldn f T n k < n → f (T (k + ldn f T n k)) = false
  | 0, _, h => by simp [ldn] at h
  | n + 1, k, h => by
    by_cases h1 : f (T k) = true
    · have e : ldn f T (n + 1) k = ldn f T n (k + 1) + 1 := by rw [ldn, if_pos h1]
      have := ldn_out f T n (k + 1) (by omega)
      rw [e, show k + (ldn f T n (k + 1) + 1) = k + 1 + ldn f T n (k + 1) by omega]
      exact this
    · have e : ldn f T (n + 1) k = 0 := by rw [ldn, if_neg h1]
      rw [e]
      simpa using h1
def seg (T : Tx) : Nat → Nat → List Int
  | _, 0 => []
  | k, n + 1 => T k :: seg T (k + 1) n
theorem seg_len (T : Tx) : ∀ (n k : Nat), (seg T k n).length = n
  | 0, _ => rfl
  | n + 1, k => by rw [seg, List.length_cons, seg_len T n (k + 1)]
theorem seg_get (T : Tx) : ∀ (n k j : Nat), j < n → (seg T k n).getD j 0 = T (k + j)
  | 0, _, _, h => by omega
  | n + 1, k, 0, _ => by simp [seg]
  | n + 1, k, j + 1, h => by
    have := seg_get T n (k + 1) j (by omega)
    simp only [seg, List.getD_cons_succ]
    rw [this, show k + 1 + j = k + (j + 1) by omega]
theorem seg_add (T : Tx) : ∀ (a b k : Nat), seg T k (a + b) = seg T k a ++ seg T (k + a) b
  | 0, b, k => by simp [seg]
  | a + 1, b, k => by
    rw [show a + 1 + b = (a + b) + 1 by omega, seg, seg, seg_add T a b (k + 1), show k + 1 + a = k + (a + 1) by omega]
    rfl
theorem seg_all (T : Tx) (P : Int → Prop) : ∀ (n k : Nat), (∀ j, j < n → P (T (k + j))) → ∀ c ∈ seg T k n, P c
  | 0, _, _, c, hc => by simp [seg] at hc
  | n + 1, k, h, c, hc => by
    rw [seg, List.mem_cons] at hc
    rcases hc with rfl | hc
    · exact h 0 (by omega)
    · exact seg_all T P n (k + 1) (fun j hj => by have := h (j + 1) (by omega); rwa [show k + (j + 1) = k + 1 + j by omega] at this) c hc
abbrev wd4 (T : Tx) (k : Nat) (a b c e : Int) : Prop := T k = a ∧ T (k + 1) = b ∧ T (k + 2) = c ∧ T (k + 3) = e
/-- the length of the plain value at k; 0 if there is none -/
def plen (T : Tx) (k : Nat) : Nat :=
  if wd4 T k 110 117 108 108 ∨ wd4 T k 116 114 117 101 then 4
  else if wd4 T k 102 97 108 115 ∧ T (k + 4) = 101 then 5
  else if T k = 34 then (if T (k + 1 + ldn isL T 12 (k + 1)) = 34 then ldn isL T 12 (k + 1) + 2 else 0)
  else if T k = 48 then 1
  else if T k = 45 then (if T (k + 1) = 48 ∨ ldn isD T 5 (k + 1) = 0 then 0 else ldn isD T 5 (k + 1) + 1)
  else ldn isD T 5 k
def NumD (ds : List Int) : Prop := ds.length ≤ 5 ∧ (∃ c r, ds = c :: r ∧ 49 ≤ c ∧ c ≤ 57) ∧ ∀ c ∈ ds, isDig c
def StrT (t : List Int) : Prop := ∃ ls : List Int, t = 34 :: (ls ++ [34]) ∧ ls.length ≤ 12 ∧ ∀ c ∈ ls, isLet c
/-- a plain value's text -/
def PT (t : List Int) : Prop := t = [110, 117, 108, 108] ∨ t = [116, 114, 117, 101] ∨ t = [102, 97, 108, 115, 101] ∨ StrT t ∨ t = [48] ∨ NumD t ∨ ∃ ds, t = 45 :: ds ∧ NumD ds
theorem numD_of (T : Tx) (k : Nat) (h0 : ldn isD T 5 k ≠ 0) (h1 : T k ≠ 48) : NumD (seg T k (ldn isD T 5 k)) := by
  refine ⟨by rw [seg_len]; exact ldn_le _ _ _ _, ?_, ?_⟩
  · have h2 := ldn_in isD T 5 k 0 (by omega)
    simp only [Nat.add_zero, decide_eq_true_eq] at h2
    refine ⟨T k, seg T (k + 1) (ldn isD T 5 k - 1), ?_, by omega, by omega⟩
    have e : ldn isD T 5 k = (ldn isD T 5 k - 1) + 1 := by omega
    conv => lhs; rw [e]
    rfl
  · refine seg_all T (fun c => isDig c) _ _ (fun j hj => ?_)
    have := ldn_in isD T 5 k j hj
    simpa using this
theorem plen_PT (T : Tx) (k : Nat) (h : plen T k ≠ 0) : PT (seg T k (plen T k)) := by
  revert h
  unfold plen
  split
  · next h1 =>
    intro _
    rcases h1 with ⟨a, b, c, e⟩ | ⟨a, b, c, e⟩
    · left; simp only [seg, a, b, c, e]
    · right; left; simp only [seg, a, b, c, e]
  split
  · next h1 =>
    intro _
    obtain ⟨⟨a, b, c, e⟩, g⟩ := h1
    right; right; left; simp only [seg, a, b, c, e, g]
  split
  · next h1 =>
    split
    · next h2 =>
      intro _
      right; right; right; left
      refine ⟨seg T (k + 1) (ldn isL T 12 (k + 1)), ?_, by rw [seg_len]; exact ldn_le _ _ _ _, ?_⟩
      · rw [seg, seg_add T _ 1 (k + 1), h1]
        simp only [seg, h2]
      · refine seg_all T (fun c => isLet c) _ _ (fun j hj => ?_)
        have := ldn_in isL T 12 (k + 1) j hj
        simpa using this
    · intro h; exact absurd rfl h
  split
  · next h1 =>
    intro _
    right; right; right; right; left
    simp only [seg, h1]
  split
  · next h1 =>
    split
    · intro h; exact absurd rfl h
    · next h2 =>
      intro _
      right; right; right; right; right; right
      exact ⟨seg T (k + 1) (ldn isD T 5 (k + 1)), by rw [seg, h1], numD_of T (k + 1) (by omega) (by omega)⟩
  · intro h
    right; right; right; right; right; left
    exact numD_of T k h (by omega)
theorem plen_le (T : Tx) (k : Nat) : plen T k ≤ 14 := by
  have h1 := ldn_le isL T 12 (k + 1)
  have h2 := ldn_le isD T 5 (k + 1)
  have h3 := ldn_le isD T 5 k
  unfold plen
  repeat' split
  all_goals omega
/-! values -/
def pK (T : Tx) (b : Bool) (acc : List Int) (k : Nat) : Option (Int × Nat) :=
  if b = true then (if T k = 34 ∧ isLet (T (k + 1)) ∧ T (k + 2) = 34 ∧ T (k + 3) = 58 ∧ T (k + 1) ∉ acc then some (T (k + 1), k + 4) else none) else some (0, k)
def pM {α : Type} (T : Tx) (b : Bool) (f : Nat → Option (α × Nat)) : Nat → List (Int × α) → Nat → Option (List (Int × α) × Nat)
  | 0, _, _ => none
  | n + 1, acc, k => match pK T b (acc.map (fun x => x.1)) k with
    | none => none
    | some (c, k1) => match f k1 with
      | none => none
      | some (v, k2) => if T k2 = 44 then pM T b f n (acc ++ [(c, v)]) (k2 + 1) else if T k2 = clo b then some (acc ++ [(c, v)], k2 + 1) else none
def pG {α : Type} (T : Tx) (b : Bool) (f : Nat → Option (α × Nat)) (n k : Nat) : Option (List (Int × α) × Nat) := if T k = clo b then some ([], k + 1) else pM T b f n [] k
def pV (T : Tx) (n : Nat) : (d : Nat) → Nat → Option (VT d × Nat)
  | 0, k => if T k = 91 ∨ T k = 123 then none else if plen T k = 0 then none else some (seg T k (plen T k), k + plen T k)
  | d + 1, k => if T k = 91 ∨ T k = 123 then (match pG T (decide (T k = 123)) (pV T n d) n (k + 1) with
      | none => none
      | some (ms, k2) => some (.inr (decide (T k = 123), ms), k2))
    else if plen T k = 0 then none else some (.inl (seg T k (plen T k)), k + plen T k)
/-- the value that a text is -/
def pW (T : Tx) (n : Nat) : Option (VT 5) := match pV T (n + 1) 5 0 with
  | none => none
  | some (v, k) => if k = n then some v else none
def sumL {α : Type} (f : Int × α → Nat) : List (Int × α) → Nat
  | [] => 0
  | x :: r => f x + sumL f r
def cnt : (d : Nat) → VT d → Nat
  | 0, _ => 1
  | _ + 1, .inl _ => 1
  | d + 1, .inr (_, ms) => 1 + sumL (fun x => cnt d x.2) ms
/-- the width of an element or a member -/
def mw (b : Bool) (n : Nat) : Nat := if b = true then n + 4 else n
def len : (d : Nat) → VT d → Nat
  | 0, t => List.length (α := Int) t
  | _ + 1, .inl t => t.length
  | d + 1, .inr (b, ms) => if ms.isEmpty then 2 else 1 + sumL (fun x => mw b (len d x.2) + 1) ms
/-- the value's text stands in A from p on -/
def Tok (A : Tx) (p : Nat) (t : List Int) : Prop := ∀ j, j < t.length → A (p + j) = t.getD j 0
def LayS {α : Type} (A : Tx) (b : Bool) (L : Nat → α → Prop) (f : α → Nat) : Nat → List (Int × α) → Prop
  | _, [] => True
  | p, x :: r => (b = true → A p = 34 ∧ A (p + 1) = x.1 ∧ A (p + 2) = 34 ∧ A (p + 3) = 58) ∧ L (p + mw b 0) x.2 ∧ A (p + mw b (f x.2)) = (if r.isEmpty then clo b else 44) ∧ LayS A b L f (p + mw b (f x.2) + 1) r
def Lay (A : Tx) : (d : Nat) → Nat → VT d → Prop
  | 0, p, t => Tok A p t
  | _ + 1, p, .inl t => Tok A p t
  | d + 1, p, .inr (b, ms) => A p = opn b ∧ (ms = [] → A (p + 1) = clo b) ∧ LayS A b (Lay A d) (len d) (p + 1) ms
/-- texts and keys are right -/
def WF : (d : Nat) → VT d → Prop
  | 0, t => PT t
  | _ + 1, .inl t => PT t
  | d + 1, .inr (b, ms) => (∀ x ∈ ms, WF d x.2 ∧ (b = true → isLet x.1) ∧ (b = false → x.1 = 0)) ∧ (b = true → (ms.map (fun x => x.1)).Nodup)
