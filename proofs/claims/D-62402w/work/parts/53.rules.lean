/-! the pure side: rules -/
/-- a step of a pattern: a letter, 1 any key, 2 any element, 1000 and a digit -/
def pSt (T : Tx) (k : Nat) : Option (Int × Nat) :=
  if T k = 46 then (if T (k + 1) = 42 then some (1, k + 2) else if isLet (T (k + 1)) then some (T (k + 1), k + 2) else none)
  else if T k = 91 then (if (T (k + 1) = 42 ∨ isDig (T (k + 1))) ∧ T (k + 2) = 93 then some (if T (k + 1) = 42 then 2 else 952 + T (k + 1), k + 3) else none)
  else none
def pSts (T : Tx) : Nat → List Int → Nat → Option (List Int × Nat)
  | 0, acc, k => if T k = 58 then some (acc, k) else none
  | n + 1, acc, k => if T k = 58 then some (acc, k) else match pSt T k with
    | none => none
    | some (s, k') => pSts T n (acc ++ [s]) k'
def itl (T : Tx) : Nat → Nat → Nat
  | 0, _ => 0
  | n + 1, k => if isLet (T k) ∨ T k = 46 then (if T (k + 1) = 42 ∨ T (k + 1) = 43 then 2 + itl T n (k + 2) else 1 + itl T n (k + 1)) else 0
/-- the length of a matcher; 0 if there is none -/
def mlen (T : Tx) (k : Nat) : Nat :=
  if T k = 116 ∨ T k = 61 ∨ T k = 48 ∨ T k = 105 then 1
  else if T k = 62 ∨ T k = 60 then (if isDig (T (k + 1)) then 2 else 0)
  else if T k = 47 then (if itl T 8 (k + 1) ≠ 0 ∧ T (k + 1 + itl T 8 (k + 1)) = 47 then itl T 8 (k + 1) + 2 else 0)
  else if T k = 126 then (if ldn isL T 6 (k + 1) = 0 then 0 else ldn isL T 6 (k + 1) + 1)
  else 0
def pMts (T : Tx) (sep : Int) : Nat → List (List Int) → Nat → Option (List (List Int))
  | 0, _, _ => none
  | n + 1, acc, k => if mlen T k = 0 then none else if T (k + mlen T k) = sep then pMts T sep n (acc ++ [seg T k (mlen T k)]) (k + mlen T k + 1)
    else if T (k + mlen T k) = 0 then some (acc ++ [seg T k (mlen T k)]) else none
def sepC (b : Bool) : Int := if b = true then 124 else 38
abbrev RU : Type := List Int × Bool × List (List Int)
def pR (T : Tx) (N : Nat) : Option RU := if T 0 = 36 then (match pSts T 5 [] 1 with
  | none => none
  | some (ss, k) => match pMts T (sepC (decide (T (k + 1 + mlen T (k + 1)) = 124))) (N + 1) [] (k + 1) with
    | none => none
    | some ms => some (ss, decide (T (k + 1 + mlen T (k + 1)) = 124), ms)) else none
/-- texts of steps -/
def stx (s : Int) : List Int := if s = 1 then [46, 42] else if s = 2 then [91, 42, 93] else if 1000 ≤ s then [91, s - 952, 93] else [46, s]
def SV (s : Int) : Prop := s = 1 ∨ s = 2 ∨ isLet s ∨ (1000 ≤ s ∧ s ≤ 1009)
def SLay (A : Tx) : Nat → List Int → Nat → Prop
  | q, [], c => q = c
  | q, s :: ss, c => SV s ∧ Tok A q (stx s) ∧ SLay A (q + (stx s).length) ss c
/-- items of a pattern of letters: signs, and how often: 49 once, 42, 43 -/
def itx : List (Int × Int) → List Int
  | [] => []
  | x :: r => if x.2 = 49 then x.1 :: itx r else x.1 :: x.2 :: itx r
def IV (x : Int × Int) : Prop := (isLet x.1 ∨ x.1 = 46) ∧ (x.2 = 49 ∨ x.2 = 42 ∨ x.2 = 43)
/-- a matcher's text -/
def MT (t : List Int) : Prop := t = [116] ∨ t = [61] ∨ t = [48] ∨ t = [105] ∨ (∃ c, t = [62, c] ∧ isDig c) ∨ (∃ c, t = [60, c] ∧ isDig c) ∨
  (∃ ls, t = 126 :: ls ∧ ls ≠ [] ∧ ls.length ≤ 6 ∧ ∀ c ∈ ls, isLet c) ∨ (∃ its, t = 47 :: (itx its ++ [47]) ∧ its ≠ [] ∧ its.length ≤ 8 ∧ ∀ x ∈ its, IV x)
def MLay (A : Tx) (sep : Int) : Nat → List (List Int) → Nat → Prop
  | _, [], _ => False
  | q, t :: r, e => MT t ∧ Tok A q t ∧ (if r.isEmpty then q + t.length = e else A (q + t.length) = sep ∧ MLay A sep (q + t.length + 1) r e)
def RLay (A : Tx) (p : Nat) (R : RU) (e : Nat) : Prop := A p = 36 ∧ R.1.length ≤ 5 ∧ ∃ c, SLay A (p + 1) R.1 c ∧ A c = 58 ∧ MLay A (sepC R.2.1) (c + 1) R.2.2 e
theorem pSt_ok {T : Tx} {k : Nat} {s : Int} {k' : Nat} (h : pSt T k = some (s, k')) : SV s ∧ Tok T k (stx s) ∧ k' = k + (stx s).length := by
  unfold pSt at h
  have tk2 : ∀ a b : Int, T k = a → T (k + 1) = b → Tok T k [a, b] := by
    intro a b h1 h2 j hj
    simp at hj
    have : j = 0 ∨ j = 1 := by omega
    rcases this with rfl | rfl
    · simpa using h1
    · simpa using h2
  have tk3 : ∀ a b c : Int, T k = a → T (k + 1) = b → T (k + 2) = c → Tok T k [a, b, c] := by
    intro a b c h1 h2 h3 j hj
    simp at hj
    have : j = 0 ∨ j = 1 ∨ j = 2 := by omega
    rcases this with rfl | rfl | rfl
    · simpa using h1
    · simpa using h2
    · simpa using h3
  split at h
  · next h1 =>
    split at h
    · next h2 =>
      simp only [Option.some.injEq, Prod.mk.injEq] at h
      obtain ⟨rfl, rfl⟩ := h
      exact ⟨Or.inl rfl, tk2 _ _ h1 h2, rfl⟩
    · split at h
      · next h2 h3 =>
        simp only [Option.some.injEq, Prod.mk.injEq] at h
        obtain ⟨rfl, rfl⟩ := h
        have e : stx (T (k + 1)) = [46, T (k + 1)] := by
          unfold isLet at h3
          rw [stx, if_neg (by omega), if_neg (by omega), if_neg (by omega)]
        rw [e]
        exact ⟨Or.inr (Or.inr (Or.inl h3)), tk2 _ _ h1 rfl, rfl⟩
      · simp at h
  · split at h
    · next h1 =>
      split at h
      · next h2 =>
        simp only [Option.some.injEq, Prod.mk.injEq] at h
        obtain ⟨h3, rfl⟩ := h
        split at h3
        · next h4 =>
          subst h3
          exact ⟨Or.inr (Or.inl rfl), tk3 _ _ _ h1 h4 h2.2, rfl⟩
        · next h4 =>
          have h5 := h2.1.resolve_left h4
          unfold isDig at h5
          have e : stx s = [91, T (k + 1), 93] := by
            rw [stx, if_neg (by omega), if_neg (by omega), if_pos (by omega), show s - 952 = T (k + 1) by omega]
          rw [e]
          exact ⟨Or.inr (Or.inr (Or.inr (by omega))), tk3 _ _ _ h1 rfl h2.2, rfl⟩
      · simp at h
    · simp at h
theorem pSts_ok {T : Tx} : ∀ (n : Nat) (acc : List Int) (k : Nat) (ss : List Int) (k' : Nat), pSts T n acc k = some (ss, k') → ∃ r, ss = acc ++ r ∧ r.length ≤ n ∧ SLay T k r k' ∧ T k' = 58
  | 0, acc, k, ss, k', h => by
    unfold pSts at h
    split at h
    · next h1 =>
      simp only [Option.some.injEq, Prod.mk.injEq] at h
      obtain ⟨rfl, rfl⟩ := h
      exact ⟨[], by simp, by simp, rfl, h1⟩
    · simp at h
  | n + 1, acc, k, ss, k', h => by
    unfold pSts at h
    split at h
    · next h1 =>
      simp only [Option.some.injEq, Prod.mk.injEq] at h
      obtain ⟨rfl, rfl⟩ := h
      exact ⟨[], by simp, by simp, rfl, h1⟩
    · split at h
      · simp at h
      · next s k1 e1 =>
        obtain ⟨r, q1, q2, q3, q4⟩ := pSts_ok n _ _ _ _ h
        obtain ⟨a1, a2, a3⟩ := pSt_ok e1
        subst a3
        exact ⟨s :: r, by rw [q1]; simp, by simp; omega, ⟨a1, a2, q3⟩, q4⟩
theorem itl_ok {T : Tx} : ∀ (n k : Nat), ∃ its, seg T k (itl T n k) = itx its ∧ its.length ≤ n ∧ (∀ x ∈ its, IV x) ∧ (itl T n k ≠ 0 → its ≠ [])
  | 0, k => ⟨[], rfl, by simp, by simp, fun h => absurd rfl h⟩
  | n + 1, k => by
    unfold itl
    split
    · next h1 =>
      split
      · next h2 =>
        obtain ⟨its, q1, q2, q3, _⟩ := itl_ok (T := T) n (k + 2)
        refine ⟨(T k, T (k + 1)) :: its, ?_, by simp; omega, ?_, fun _ => by simp⟩
        · rw [seg_add T 2 _ k, q1, itx, if_neg (by simp only []; omega)]
          rfl
        · intro x hx
          rcases List.mem_cons.mp hx with rfl | hx
          · exact ⟨h1, by simp only []; omega⟩
          · exact q3 x hx
      · next h2 =>
        obtain ⟨its, q1, q2, q3, _⟩ := itl_ok (T := T) n (k + 1)
        refine ⟨(T k, 49) :: its, ?_, by simp; omega, ?_, fun _ => by simp⟩
        · rw [seg_add T 1 _ k, q1, itx, if_pos rfl]
          rfl
        · intro x hx
          rcases List.mem_cons.mp hx with rfl | hx
          · exact ⟨h1, Or.inl rfl⟩
          · exact q3 x hx
    · exact ⟨[], rfl, by simp, by simp, fun h => absurd rfl h⟩
theorem mlen_MT {T : Tx} {k : Nat} (h : mlen T k ≠ 0) : MT (seg T k (mlen T k)) := by
  revert h
  unfold mlen
  split
  · next h1 =>
    intro _
    simp only [seg]
    unfold MT
    rcases h1 with h1 | h1 | h1 | h1 <;> rw [h1] <;> simp
  split
  · next h1 =>
    split
    · next h2 =>
      intro _
      simp only [seg]
      rcases h1 with h1 | h1 <;> rw [h1]
      · exact Or.inr (Or.inr (Or.inr (Or.inr (Or.inl ⟨_, rfl, h2⟩))))
      · exact Or.inr (Or.inr (Or.inr (Or.inr (Or.inr (Or.inl ⟨_, rfl, h2⟩)))))
    · intro h; exact absurd rfl h
  split
  · next h1 =>
    split
    · next h2 =>
      intro _
      obtain ⟨its, q1, q2, q3, q4⟩ := itl_ok (T := T) 8 (k + 1)
      refine Or.inr (Or.inr (Or.inr (Or.inr (Or.inr (Or.inr (Or.inr ⟨its, ?_, q4 h2.1, q2, q3⟩))))))
      rw [seg, seg_add T _ 1 (k + 1), q1, h1]
      simp only [seg, h2.2]
    · intro h; exact absurd rfl h
  split
  · next h1 =>
    split
    · intro h; exact absurd rfl h
    · next h2 =>
      intro _
      refine Or.inr (Or.inr (Or.inr (Or.inr (Or.inr (Or.inr (Or.inl ⟨seg T (k + 1) (ldn isL T 6 (k + 1)), ?_, ?_, ?_, ?_⟩))))))
      · rw [seg, h1]
      · intro e
        have := congrArg List.length e
        rw [seg_len] at this
        exact h2 this
      · rw [seg_len]; exact ldn_le _ _ _ _
      · refine seg_all T (fun c => isLet c) _ _ (fun j hj => ?_)
        have := ldn_in isL T 6 (k + 1) j hj
        simpa using this
  · intro h; exact absurd rfl h
theorem pMts_ok {T : Tx} {N : Nat} (hT : TT T N) {sep : Int} (hs : sep ≠ 0) : ∀ (n : Nat) (acc : List (List Int)) (k : Nat) (ms : List (List Int)), pMts T sep n acc k = some ms → k ≤ N → ∃ r, ms = acc ++ r ∧ MLay T sep k r N
  | 0, _, _, _, h, _ => by simp [pMts] at h
  | n + 1, acc, k, ms, h, hk => by
    unfold pMts at h
    split at h
    · simp at h
    · next h0 =>
      have hm := mlen_MT h0
      have hk2 : k + mlen T k ≤ N := by
        have hne : T (k + (mlen T k - 1)) ≠ 0 := by
          have := tok_seg T k (mlen T k) (mlen T k - 1) (by rw [seg_len]; omega)
          rw [this]
          have hmem := getD_mem (t := seg T k (mlen T k)) (j := mlen T k - 1) (by rw [seg_len]; omega)
          generalize (seg T k (mlen T k)).getD (mlen T k - 1) 0 = c at hmem
          generalize seg T k (mlen T k) = t at hmem hm
          rcases hm with rfl | rfl | rfl | rfl | ⟨d, rfl, hd⟩ | ⟨d, rfl, hd⟩ | ⟨ls, rfl, _, _, hd⟩ | ⟨its, rfl, _, _, hd⟩
          · simp at hmem; omega
          · simp at hmem; omega
          · simp at hmem; omega
          · simp at hmem; omega
          · unfold isDig at hd; simp at hmem; omega
          · unfold isDig at hd; simp at hmem; omega
          · rcases List.mem_cons.mp hmem with rfl | hmem
            · omega
            · have := hd c hmem; unfold isLet at this; omega
          · have hi : ∀ its : List (Int × Int), (∀ x ∈ its, IV x) → ∀ c ∈ itx its, c ≠ 0 := by
              intro its
              induction its with
              | nil => intro _ c hc; simp [itx] at hc
              | cons x r ih =>
                intro hx c hc
                have hxx := hx x List.mem_cons_self
                have ihr := ih (fun y hy => hx y (List.mem_cons_of_mem _ hy))
                unfold IV isLet at hxx
                unfold itx at hc
                split at hc
                · rcases List.mem_cons.mp hc with rfl | hc
                  · omega
                  · exact ihr c hc
                · rcases List.mem_cons.mp hc with rfl | hc
                  · omega
                  · rcases List.mem_cons.mp hc with rfl | hc
                    · omega
                    · exact ihr c hc
            simp only [List.mem_cons, List.mem_append, List.not_mem_nil, or_false] at hmem
            rcases hmem with rfl | hmem | rfl
            · omega
            · exact hi its hd c hmem
            · omega
        have := hT.lt hne
        omega
      split at h
      · next h1 =>
        have h9 := hT.lt (k := k + mlen T k) (by omega)
        obtain ⟨r, q1, q2⟩ := pMts_ok hT hs n _ _ _ h (by omega)
        refine ⟨seg T k (mlen T k) :: r, by rw [q1]; simp, hm, tok_seg T k _, ?_⟩
        rw [seg_len]
        cases r with
        | nil => exact q2.elim
        | cons _ _ => exact ⟨h1, q2⟩
      · split at h
        · next h1 =>
          simp only [Option.some.injEq] at h
          refine ⟨[seg T k (mlen T k)], h.symm, hm, tok_seg T k _, ?_⟩
          rw [seg_len]
          have : ¬ k + mlen T k < N := fun q => by have := hT.2.1 _ q; omega
          simp only [List.isEmpty_nil, if_true]
          omega
        · simp at h
theorem sepC_ne (b : Bool) : sepC b ≠ 0 := by cases b <;> simp [sepC]
theorem pR_ok {T : Tx} {N : Nat} (hT : TT T N) {R : RU} (h : pR T N = some R) : RLay T 0 R N := by
  unfold pR at h
  split at h
  · next h0 =>
    split at h
    · simp at h
    · next ss k e1 =>
      split at h
      · simp at h
      · next ms e2 =>
        simp only [Option.some.injEq] at h
        subst h
        obtain ⟨r, q1, q2, q3, q4⟩ := pSts_ok _ _ _ _ _ e1
        have hk := hT.lt (k := k) (by omega)
        obtain ⟨r2, q5, q6⟩ := pMts_ok hT (sepC_ne _) _ _ _ _ e2 (by omega)
        simp only [List.nil_append] at q1 q5
        subst q1 q5
        exact ⟨h0, q2, k, q3, q4, q6⟩
  · simp at h
