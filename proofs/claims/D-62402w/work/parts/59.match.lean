/-! the pure side: matchers -/
def b2 (b : Bool) : Int := if b = true then 1 else 0
theorem b2_t : b2 true = 1 := rfl
theorem b2_f : b2 false = 0 := rfl
theorem b2_rg (b : Bool) : b2 b = 0 ∨ b2 b = 1 := by cases b <;> simp [b2]
def isIn (ws ls : List Int) : Prop := ∃ k, k + ws.length ≤ ls.length ∧ ∀ j, j < ws.length → ls.getD (k + j) 0 = ws.getD j 0
def tkn (its : List (Int × Int)) (c : Int) (S : Nat → Bool) (k : Nat) : Bool := match its[k]? with
  | none => false
  | some x => S k && (decide (x.1 = 46) || decide (x.1 = c))
def rep (its : List (Int × Int)) (k : Nat) : Bool := match its[k]? with
  | none => false
  | some x => decide (x.2 ≠ 49)
def str (its : List (Int × Int)) (k : Nat) : Bool := match its[k]? with
  | none => false
  | some x => decide (x.2 = 42)
def prv (f : Nat → Bool) : Nat → Bool
  | 0 => false
  | j + 1 => f j
def nfN (its : List (Int × Int)) (c : Int) (S : Nat → Bool) (j : Nat) : Bool := (tkn its c S j && rep its j) || prv (tkn its c S) j
def skp (its : List (Int × Int)) (S : Nat → Bool) : Nat → Bool
  | 0 => S 0
  | j + 1 => S (j + 1) || (skp its S j && str its j)
def runS (its : List (Int × Int)) : (Nat → Bool) → List Int → (Nat → Bool)
  | S, [] => S
  | S, c :: r => runS its (skp its (nfN its c S)) r
def shp (its : List (Int × Int)) (ls : List Int) : Bool := runS its (skp its (fun j => decide (j = 0))) ls its.length
/-- as the component goes on -/
def nfC (its : List (Int × Int)) (c : Int) (S : Nat → Bool) (j : Nat) : Bool := (tkn its c S j && rep its j) || prv (fun k => tkn its c S k && !(str its k)) j
theorem nfC_N (its : List (Int × Int)) (c : Int) (S : Nat → Bool) : ∀ j, skp its (nfC its c S) j = skp its (nfN its c S) j
  | 0 => rfl
  | j + 1 => by
    have ih := nfC_N its c S j
    rw [skp, skp, ih, nfC, nfN]
    simp only [prv]
    cases h1 : str its j
    · simp
    · cases h2 : tkn its c S j
      · simp
      · have h3 : rep its j = true := by
          unfold str at h1
          unfold rep
          cases h4 : its[j]? with
          | none => rw [h4] at h1; simp at h1
          | some x => rw [h4] at h1; simp at h1; simp [h1]
        have h5 : skp its (nfN its c S) j = true := by
          cases j with
          | zero => rw [skp, nfN, h2, h3]; rfl
          | succ i => rw [skp, nfN, h2, h3]; simp
        rw [h5]; simp
def dcd : List Int → List (Int × Int)
  | [] => []
  | [c] => if c = 47 then [] else [(c, 49)]
  | c :: x :: r => if c = 47 then [] else if x = 42 ∨ x = 43 then (c, x) :: dcd r else (c, 49) :: dcd (x :: r)
theorem dcd_itx : ∀ its : List (Int × Int), (∀ x ∈ its, IV x) → dcd (itx its ++ [47]) = its
  | [], _ => by simp [itx, dcd]
  | x :: r, h => by
    have ih := dcd_itx r (fun y hy => h y (List.mem_cons_of_mem _ hy))
    have hx := h x List.mem_cons_self
    obtain ⟨h1, h2⟩ := hx
    have n47 : x.1 ≠ 47 := by unfold isLet at h1; omega
    rw [itx]
    split
    · next e =>
      match r, ih, h with
      | [], ih, h =>
        simp only [itx, List.append_eq, List.cons_append, List.nil_append] at ih ⊢
        rw [dcd, if_neg n47, if_neg (by omega), ih, ← e]
      | y :: r', ih, h =>
        have hy := (h y (by simp)).1
        rw [itx] at ih ⊢
        have : y.1 ≠ 42 ∧ y.1 ≠ 43 := by unfold isLet at hy; omega
        split at ih
        · next e2 =>
          rw [if_pos e2]
          simp only [List.cons_append] at ih ⊢
          rw [dcd, if_neg n47, if_neg (by omega), ih, ← e]
        · next e2 =>
          rw [if_neg e2]
          simp only [List.cons_append] at ih ⊢
          rw [dcd, if_neg n47, if_neg (by omega), ih, ← e]
    · next e =>
      simp only [List.cons_append]
      rw [dcd, if_neg n47, if_pos (by omega), ih]
def strL (t : List Int) : List Int := (t.drop 1).dropLast
theorem strL_eq (ls : List Int) : strL (34 :: (ls ++ [34])) = ls := by simp [strL]
theorem pt_str {t : List Int} (h : PT t) (hk : kdC (t.getD 0 0) = 3) : ∃ ls, t = 34 :: (ls ++ [34]) ∧ ls.length ≤ 12 ∧ (∀ c ∈ ls, isLet c) ∧ strL t = ls := by
  rcases h with rfl | rfl | rfl | h | rfl | h | h
  · simp [kdC] at hk
  · simp [kdC] at hk
  · simp [kdC] at hk
  · obtain ⟨ls, rfl, h1, h2⟩ := h
    exact ⟨ls, rfl, h1, h2, strL_eq ls⟩
  · simp [kdC] at hk
  · obtain ⟨_, ⟨c, r, rfl, h1, h2⟩, _⟩ := h
    simp [kdC] at hk
    omega
  · obtain ⟨ds, rfl, _⟩ := h
    simp [kdC] at hk
def npt : (d : Nat) → VT d → Nat
  | 0, _ => 0
  | _ + 1, .inl _ => 0
  | _ + 1, .inr (_, ms) => ms.length
theorem vt_str : ∀ (d : Nat) (v : VT d), WF d v → kdV d v = 3 → isG d v = false ∧ ∃ ls, txt d v = 34 :: (ls ++ [34]) ∧ ls.length ≤ 12 ∧ (∀ c ∈ ls, isLet c) ∧ strL (txt d v) = ls
  | 0, t, h, hk => ⟨rfl, pt_str h hk⟩
  | d + 1, .inl t, h, hk => ⟨rfl, pt_str h hk⟩
  | d + 1, .inr (b, ms), h, hk => by cases b <;> simp [kdV] at hk
/-- a matcher holds -/
def hol (d : Nat) (t : List Int) (e a : VT d) : Prop := match t with
  | [] => False
  | c :: r => if c = 116 then kdV d a = kdV d e else if c = 61 then Sam d e a else if c = 48 then kdV d a = 0 else if c = 105 then kdV d a = 2
    else if c = 62 then kdV d a = 4 ∧ r.headD 0 - 48 ≤ (npt d a : Int) else if c = 60 then kdV d a = 4 ∧ (npt d a : Int) ≤ r.headD 0 - 48
    else if c = 126 then kdV d a = 3 ∧ isIn r (strL (txt d a)) else kdV d a = 3 ∧ shp (dcd r) (strL (txt d a)) = true
def ruH (d : Nat) (R : RU) (e a : VT d) : Prop := if R.2.1 = true then ∃ t ∈ R.2.2, hol d t e a else ∀ t ∈ R.2.2, hol d t e a
def lsT (t : List Int) : Prop := t.headD 0 = 116 ∨ t.headD 0 = 62 ∨ t.headD 0 = 60
def lse (R : RU) : Prop := ∃ t ∈ R.2.2, lsT t
noncomputable def oc (d : Nat) (R : RU) (e a : VT d) : Int := iteP (ruH d R e a) (iteP (lse R) 3 1) 0
/-- what the matcher's first sign tells of where it ends -/
theorem MT_cases {t : List Int} (h : MT t) : (∃ its, t = 47 :: (itx its ++ [47]) ∧ its ≠ [] ∧ its.length ≤ 8 ∧ ∀ x ∈ its, IV x) ∨ (∃ c r, t = c :: r ∧ c ≠ 47 ∧ ∀ x ∈ r, x ≠ 38 ∧ x ≠ 124) := by
  rcases h with rfl | rfl | rfl | rfl | ⟨c, rfl, hc⟩ | ⟨c, rfl, hc⟩ | ⟨ls, rfl, _, _, hc⟩ | h
  · exact Or.inr ⟨_, _, rfl, by omega, by simp⟩
  · exact Or.inr ⟨_, _, rfl, by omega, by simp⟩
  · exact Or.inr ⟨_, _, rfl, by omega, by simp⟩
  · exact Or.inr ⟨_, _, rfl, by omega, by simp⟩
  · exact Or.inr ⟨_, _, rfl, by omega, by simp; unfold isDig at hc; omega⟩
  · exact Or.inr ⟨_, _, rfl, by omega, by simp; unfold isDig at hc; omega⟩
  · exact Or.inr ⟨_, _, rfl, by omega, fun x hx => by have := hc x hx; unfold isLet at this; omega⟩
  · exact Or.inl h
/-! what is compared -/
/-- mismatches: kind and place -/
abbrev MM : Type := Int × List Int
noncomputable def good (d : Nat) (rs : List RU) (pl : List Int) (e a : VT d) : Prop := match rs[(sel rs pl).toNat]? with
  | some R => if sel rs pl = -1 then (kdV d e = kdV d a ∧ (3 < kdV d e ∨ txt d e = txt d a)) else ruH d R e a
  | none => kdV d e = kdV d a ∧ (3 < kdV d e ∨ txt d e = txt d a)
def looseAt (rs : List RU) (pl : List Int) : Prop := sel rs pl ≠ -1 ∧ ∃ R, rs[(sel rs pl).toNat]? = some R ∧ lse R
/-- the elements that are compared -/
def zipE {α : Type} (loose : Bool) : List (Int × α) → List (Int × α) → Nat → List (Int × α × α)
  | _, [], _ => []
  | [], _ :: _, _ => []
  | x :: xs, y :: ys, k => (1000 + (k : Int), x.2, y.2) :: zipE loose (if loose = true ∧ xs = [] then [x] else xs) ys (k + 1)
noncomputable def lo (rs : List RU) (pl : List Int) : Bool := iteP (looseAt rs pl) true false
/-- what is to be done inside: kind of mismatch, step, the two values -/
abbrev KD (d : Nat) : Type := Int × Int × Option (VT d × VT d)
def memK {d : Nat} (ys : List (Int × VT d)) (x : Int × VT d) : KD d := match fnd ys x.1 with
  | none => (3, x.1, none)
  | some v => (0, x.1, some (x.2, v))
def unx {d : Nat} (xs ys : List (Int × VT d)) : List (KD d) := (ys.filter (fun y => (fnd xs y.1).isNone)).map (fun y => (4, y.1, none))
noncomputable def kids (rs : List RU) (st : Bool) (pl : List Int) (d : Nat) (e a : VT (d + 1)) : List (KD d) := match e, a with
  | .inr (false, xs), .inr (false, ys) => (zipE (lo rs pl) xs ys 0).map (fun z => (0, z.1, some z.2))
  | .inr (true, xs), .inr (true, ys) => xs.map (memK ys) ++ (if st = true then unx xs ys else [])
  | _, _ => []
noncomputable def own (rs : List RU) (pl : List Int) (d : Nat) (e a : VT (d + 1)) : List MM := match e, a with
  | .inr (false, xs), .inr (false, ys) => if lo rs pl = false ∧ xs.length ≠ ys.length then [(2, pl)] else []
  | _, _ => []
def jmm {d : Nat} (f : List Int → VT d → VT d → List MM) (pl : List Int) (j : KD d) : List MM := match j.2.2 with
  | none => [(j.1, pl ++ [j.2.1])]
  | some w => f (pl ++ [j.2.1]) w.1 w.2
noncomputable def badK (rs : List RU) (pl : List Int) : Int := if sel rs pl = -1 then 1 else 5
noncomputable def cmp (rs : List RU) (st : Bool) : (d : Nat) → List Int → VT d → VT d → List MM
  | 0, pl, e, a => iteP (good 0 rs pl e a) [] [(badK rs pl, pl)]
  | d + 1, pl, e, a => iteP (good (d + 1) rs pl e a) (own rs pl d e a ++ (kids rs st pl d e a).flatMap (jmm (cmp rs st d) pl)) [(badK rs pl, pl)]
/-! how much there is to do -/
theorem fnd_mem {α : Type} : ∀ (ys : List (Int × α)) (c : Int) (v : α), fnd ys c = some v → (c, v) ∈ ys
  | [], c, v, h => by simp [fnd] at h
  | y :: r, c, v, h => by
    unfold fnd at h
    split at h
    · next e =>
      simp only [Option.some.injEq] at h
      subst e; subst h
      exact List.mem_cons_self
    · exact List.mem_cons_of_mem _ (fnd_mem r c v h)
theorem len_pos (d : Nat) (v : VT d) (h : WF d v) : 1 ≤ len d v := by
  match d, v, h with
  | 0, t, h => exact (PT_len h).1
  | d + 1, .inl t, h => exact (PT_len h).1
  | d + 1, .inr (b, ms), h =>
    simp only [len]
    split <;> omega
theorem sum_all {d : Nat} (b : Bool) : ∀ (ms : List (Int × VT d)) (x : Int × VT d), x ∈ ms → ms.length + mw b (len d x.2) ≤ sumL (fun x => mw b (len d x.2) + 1) ms
  | [], x, h => by simp at h
  | y :: r, x, h => by
    simp only [sumL, List.length_cons]
    rcases List.mem_cons.mp h with rfl | h
    · have : r.length ≤ sumL (fun x => mw b (len d x.2) + 1) r := by
        clear h
        induction r with
        | nil => simp
        | cons z r ih => simp only [sumL, List.length_cons]; omega
      omega
    · have := sum_all b r x h
      omega
theorem sum_len {d : Nat} (b : Bool) : ∀ (ms : List (Int × VT d)), (∀ x ∈ ms, WF d x.2) → ms.length * mw b 2 ≤ sumL (fun x => mw b (len d x.2) + 1) ms
  | [], _ => by simp
  | y :: r, h => by
    have := sum_len b r (fun x hx => h x (List.mem_cons_of_mem _ hx))
    have h1 := len_pos d y.2 (h y List.mem_cons_self)
    simp only [sumL, List.length_cons]
    rw [Nat.add_mul]
    cases b <;> simp only [mw] at * <;> simp at * <;> omega
theorem len_gr {d : Nat} (b : Bool) (ms : List (Int × VT d)) : len (d + 1) (.inr (b, ms)) = (if ms = [] then 2 else 1 + sumL (fun x => mw b (len d x.2) + 1) ms) := by
  simp only [len]
  cases ms <;> simp
theorem mw_len (b : Bool) (n : Nat) : n ≤ mw b n ∧ mw b n ≤ n + 4 := by cases b <;> simp [mw]
theorem len_mem {d : Nat} (b : Bool) {ms : List (Int × VT d)} {x : Int × VT d} (h : x ∈ ms) : ms.length + len d x.2 + 1 ≤ len (d + 1) (.inr (b, ms)) := by
  have h1 := sum_all b ms x h
  have h2 := mw_len b (len d x.2)
  rw [len_gr, if_neg (List.ne_nil_of_mem h)]
  omega
theorem zipE_mem {α : Type} {lo : Bool} : ∀ (ys xs : List (Int × α)) (k : Nat) (z : Int × α × α), z ∈ zipE lo xs ys k → (∃ x ∈ xs, z.2.1 = x.2) ∧ (∃ y ∈ ys, z.2.2 = y.2) ∧ 1000 + (k : Int) ≤ z.1 ∧ z.1 < 1000 + ((k + ys.length : Nat) : Int)
  | [], xs, k, z, h => by simp [zipE] at h
  | y :: ys, [], k, z, h => by simp [zipE] at h
  | y :: ys, x :: xs, k, z, h => by
    rw [zipE, List.mem_cons] at h
    rcases h with rfl | h
    · exact ⟨⟨x, List.mem_cons_self, rfl⟩, ⟨y, List.mem_cons_self, rfl⟩, by simp, by simp; omega⟩
    · obtain ⟨⟨x', h1, h1'⟩, ⟨y', h2, h2'⟩, h3, h4⟩ := zipE_mem ys _ (k + 1) z h
      refine ⟨⟨x', ?_, h1'⟩, ⟨y', List.mem_cons_of_mem _ h2, h2'⟩, by omega, by simp only [List.length_cons]; omega⟩
      split at h1
      · rw [List.mem_singleton] at h1; rw [h1]; exact List.mem_cons_self
      · exact List.mem_cons_of_mem _ h1
theorem zipE_len {α : Type} {lo : Bool} : ∀ (ys xs : List (Int × α)) (k : Nat), (zipE lo xs ys k).length = (if lo = true then (if xs.length = 0 then 0 else ys.length) else min xs.length ys.length)
  | [], xs, k => by simp [zipE]
  | y :: ys, [], k => by simp [zipE]
  | y :: ys, x :: xs, k => by
    rw [zipE, List.length_cons, zipE_len ys _ (k + 1)]
    cases lo
    · simp
    · cases xs <;> simp
theorem zipE_get {α : Type} {lo : Bool} : ∀ (ys xs : List (Int × α)) (k j : Nat) (z : Int × α × α), (zipE lo xs ys k)[j]? = some z → z.1 = 1000 + ((k + j : Nat) : Int) ∧ (∃ c, ys[j]? = some (c, z.2.2)) ∧ (∃ c, xs[if j < xs.length then j else xs.length - 1]? = some (c, z.2.1)) ∧ (lo = false → j < xs.length)
  | [], xs, k, j, z, h => by simp [zipE] at h
  | y :: ys, [], k, j, z, h => by simp [zipE] at h
  | y :: ys, x :: xs, k, 0, z, h => by
    rw [zipE] at h
    simp only [List.getElem?_cons_zero, Option.some.injEq] at h
    subst h
    exact ⟨by simp, ⟨y.1, rfl⟩, ⟨x.1, by simp⟩, fun _ => by simp⟩
  | y :: ys, x :: xs, k, j + 1, z, h => by
    rw [zipE, List.getElem?_cons_succ] at h
    obtain ⟨h1, ⟨c2, h2⟩, ⟨c3, h3⟩, h4⟩ := zipE_get ys _ (k + 1) j z h
    refine ⟨by rw [h1]; omega, ⟨c2, by rw [List.getElem?_cons_succ]; exact h2⟩, ⟨c3, ?_⟩, fun hl => ?_⟩
    · split at h3
      · next e =>
        obtain ⟨e1, e2⟩ := e
        subst e2
        simp at h3 ⊢
        exact h3
      · next e =>
        by_cases hj : j < xs.length
        · rw [if_pos hj] at h3
          rw [if_pos (by simp; omega), List.getElem?_cons_succ]; exact h3
        · rw [if_neg hj] at h3
          rw [if_neg (by simp; omega)]
          cases xs with
          | nil => simp at h3
          | cons x' xs' => simpa using h3
    · have := h4 hl
      rw [if_neg (by simp [hl])] at this
      simp; omega
