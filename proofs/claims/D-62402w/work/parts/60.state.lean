/-! the pure side: what the two keep -/
theorem tok_sh {A B : Tx} {p q : Nat} {t : List Int} (h : Tok A p t) (e : ∀ j, j < t.length → B (q + j) = A (p + j)) : Tok B q t := fun j hj => by rw [e j hj]; exact h j hj
theorem layS_sh {α : Type} {A B : Tx} {b : Bool} {L L' : Nat → α → Prop} {f : α → Nat} {W : α → Prop} (hf : ∀ (v : α) (p q : Nat), W v → L p v → (∀ j, j < f v → B (q + j) = A (p + j)) → L' q v) : ∀ (ms : List (Int × α)) (p q : Nat), (∀ x ∈ ms, W x.2) → LayS A b L f p ms → (∀ j, j < sumL (fun x => mw b (f x.2) + 1) ms → B (q + j) = A (p + j)) → LayS B b L' f q ms
  | [], _, _, _, _, _ => trivial
  | x :: r, p, q, hw, h, e => by
    obtain ⟨h1, h2, h3, h4⟩ := h
    simp only [sumL] at e
    have m0 : ∀ n, mw b n = mw b 0 + n := fun n => by cases b <;> simp [mw]; omega
    have hm := m0 (f x.2)
    refine ⟨fun hb => ?_, ?_, ?_, ?_⟩
    · have hz : mw b 0 = 4 := by rw [hb]; rfl
      obtain ⟨a1, a2, a3, a4⟩ := h1 hb
      have e0 := e 0 (by omega)
      rw [Nat.add_zero, Nat.add_zero] at e0
      refine ⟨by rw [e0]; exact a1, by rw [e 1 (by omega)]; exact a2, by rw [e 2 (by omega)]; exact a3, by rw [e 3 (by omega)]; exact a4⟩
    · refine hf x.2 (p + mw b 0) (q + mw b 0) (hw x List.mem_cons_self) h2 (fun j hj => ?_)
      have := e (mw b 0 + j) (by omega)
      rw [Nat.add_assoc, Nat.add_assoc]; exact this
    · rw [e (mw b (f x.2)) (by omega)]; exact h3
    · refine layS_sh hf r _ _ (fun y hy => hw y (List.mem_cons_of_mem _ hy)) h4 (fun j hj => ?_)
      have := e (mw b (f x.2) + 1 + j) (by omega)
      rw [show q + mw b (f x.2) + 1 + j = q + (mw b (f x.2) + 1 + j) by omega, show p + mw b (f x.2) + 1 + j = p + (mw b (f x.2) + 1 + j) by omega]
      exact this
theorem lay_sh {A B : Tx} : ∀ (d : Nat) (v : VT d) (p q : Nat), WF d v → Lay A d p v → (∀ j, j < len d v → B (q + j) = A (p + j)) → Lay B d q v
  | 0, t, p, q, _, h, e => tok_sh h e
  | d + 1, .inl t, p, q, _, h, e => tok_sh (show Tok A p t from h) e
  | d + 1, .inr (b, ms), p, q, hw, h, e => by
    obtain ⟨h1, h2, h3⟩ := h
    rw [len_gr] at e
    have e0 := e 0 (by split <;> omega)
    rw [Nat.add_zero, Nat.add_zero] at e0
    refine ⟨by rw [e0]; exact h1, fun hn => ?_, ?_⟩
    · rw [if_pos hn] at e
      rw [e 1 (by omega)]; exact h2 hn
    · by_cases hn : ms = []
      · subst hn; trivial
      · rw [if_neg hn] at e
        refine layS_sh (W := WF d) (fun v p q hv hl he => lay_sh d v p q hv hl he) ms (p + 1) (q + 1) (fun x hx => (hw.1 x hx).1) h3 (fun j hj => ?_)
        have := e (1 + j) (by omega)
        rw [Nat.add_assoc, Nat.add_assoc]; exact this
theorem slay_sh {A B : Tx} : ∀ (ss : List Int) (p q c : Nat), SLay A p ss c → (∀ j, p + j < c → B (q + j) = A (p + j)) → p ≤ c ∧ SLay B q ss (q + (c - p))
  | [], p, q, c, h, e => by
    have : p = c := h
    exact ⟨by omega, show q = q + (c - p) by omega⟩
  | s :: ss, p, q, c, h, e => by
    obtain ⟨h1, h2, h3⟩ := h
    have hle := (slay_ne ss _ c h3).1
    have ih := slay_sh ss (p + (stx s).length) (q + (stx s).length) c h3 (fun j hj => by
      have := e ((stx s).length + j) (by omega)
      rw [Nat.add_assoc, Nat.add_assoc]; exact this)
    refine ⟨by omega, h1, tok_sh h2 (fun j hj => e j (by omega)), ?_⟩
    rw [show q + (c - p) = q + (stx s).length + (c - (p + (stx s).length)) by omega]
    exact ih.2
theorem mlay_lt {A : Tx} {sep : Int} : ∀ (ts : List (List Int)) (q e : Nat), MLay A sep q ts e → q < e
  | [], q, e, h => h.elim
  | t :: r, q, e, h => by
    obtain ⟨h1, h2, h3⟩ := h
    have : 0 < t.length := List.length_pos_iff.mpr (MT_nz h1).1
    cases r with
    | nil => simp at h3; omega
    | cons t' r' =>
      simp only [List.isEmpty_cons, Bool.false_eq_true, if_false] at h3
      have := mlay_lt (t' :: r') _ e h3.2
      omega
theorem mlay_sh {A B : Tx} {sep : Int} : ∀ (ts : List (List Int)) (p q e : Nat), MLay A sep p ts e → (∀ j, p + j < e → B (q + j) = A (p + j)) → MLay B sep q ts (q + (e - p))
  | [], p, q, e, h, _ => h.elim
  | t :: r, p, q, e, h, ee => by
    have hlt := mlay_lt _ _ _ h
    obtain ⟨h1, h2, h3⟩ := h
    cases r with
    | nil =>
      simp only [List.isEmpty_nil, if_true] at h3
      refine ⟨h1, tok_sh h2 (fun j hj => ee j (by omega)), ?_⟩
      simp only [List.isEmpty_nil, if_true]
      omega
    | cons t' r' =>
      simp only [List.isEmpty_cons, Bool.false_eq_true, if_false] at h3
      have hl2 := mlay_lt (t' :: r') _ e h3.2
      refine ⟨h1, tok_sh h2 (fun j hj => ee j (by omega)), ?_⟩
      simp only [List.isEmpty_cons, Bool.false_eq_true, if_false]
      refine ⟨by rw [ee t.length (by omega)]; exact h3.1, ?_⟩
      have := mlay_sh (t' :: r') (p + t.length + 1) (q + t.length + 1) e h3.2 (fun j hj => by
        have := ee (t.length + 1 + j) (by omega)
        rw [show q + t.length + 1 + j = q + (t.length + 1 + j) by omega, show p + t.length + 1 + j = p + (t.length + 1 + j) by omega]; exact this)
      rw [show q + (e - p) = q + t.length + 1 + (e - (p + t.length + 1)) by omega]
      exact this
theorem rlay_sh {A B : Tx} {p q L : Nat} {R : RU} (h : RLay A p R (p + L)) (e : ∀ j, j < L → B (q + j) = A (p + j)) : RLay B q R (q + L) := by
  obtain ⟨h1, h2, c, h3, h4, h5⟩ := h
  have hle := (slay_ne _ _ c h3).1
  have hlt := mlay_lt _ _ _ h5
  have e0 := e 0 (by omega)
  rw [Nat.add_zero, Nat.add_zero] at e0
  have hs := slay_sh R.1 (p + 1) (q + 1) c h3 (fun j hj => by
    have := e (1 + j) (by omega)
    rw [Nat.add_assoc, Nat.add_assoc]; exact this)
  refine ⟨by rw [e0]; exact h1, h2, q + (c - p), ?_, ?_, ?_⟩
  · rw [show q + (c - p) = q + 1 + (c - (p + 1)) by omega]; exact hs.2
  · have := e (c - p) (by omega)
    rw [show p + (c - p) = c by omega] at this
    rw [this]; exact h4
  · have := mlay_sh R.2.2 (c + 1) (q + (c - p) + 1) (p + L) h5 (fun j hj => by
      have := e (c - p + 1 + j) (by omega)
      rw [show q + (c - p) + 1 + j = q + (c - p + 1 + j) by omega, show c + 1 + j = p + (c - p + 1 + j) by omega]; exact this)
    rw [show q + L = q + (c - p) + 1 + (p + L - (c + 1)) by omega]
    exact this
/-- an interaction: strict, its body, its rules, the states that it needs -/
abbrev IA : Type := Bool × Option (VT 5) × List RU × List Int
/-- the text and its length; interactions; handlers; events; what is listed -/
abbrev AS : Type := (Tx × Nat) × List IA × (Nat → Int) × List Int × List MM
def T0 : Tx := fun _ => 0
def clr (S : AS) : AS := ((T0, 0), S.2)
def atI (is : List IA) (k : Int) : Option IA := if 0 ≤ k then is[k.toNat]? else none
noncomputable def opBody (S : AS) (k : Int) : AS × Int × Int := match atI S.2.1 k, pW S.1.1 S.1.2 with
  | some x, some v => (match x.2.1 with
    | some b => iteP (Sam 5 b v) (clr S, 0, (cnt 5 v : Int)) (clr S, 2, 0)
    | none => (((T0, 0), S.2.1.set k.toNat (x.1, some v, x.2.2), S.2.2), 0, (cnt 5 v : Int)))
  | _, _ => (clr S, 1, 0)
def opRule (S : AS) (k : Int) : AS × Int × Int := match atI S.2.1 k, pR S.1.1 S.1.2 with
  | some x, some R => if x.2.2.1.length = 8 then (clr S, 2, 0) else (((T0, 0), S.2.1.set k.toNat (x.1, x.2.1, x.2.2.1 ++ [R], x.2.2.2), S.2.2), 0, (x.2.2.1.length : Int))
  | _, _ => (clr S, 1, 0)
def opMake (S : AS) (b : Bool) : AS × Int × Int := if S.2.1.length = 4 then (S, 1, 0) else ((S.1, S.2.1 ++ [(b, none, [], [])], S.2.2), 0, (S.2.1.length : Int))
def opNeeds (S : AS) (k s : Int) : AS × Bool := match atI S.2.1 k with
  | some x => if 0 ≤ s ∧ s ≤ 5 ∧ x.2.2.2.length ≠ 3 ∧ s ∉ x.2.2.2 then ((S.1, S.2.1.set k.toNat (x.1, x.2.1, x.2.2.1, x.2.2.2 ++ [s]), S.2.2), true) else (S, false)
  | none => (S, false)
def opHandler (S : AS) (s f : Int) : AS × Bool := if 0 ≤ s ∧ s ≤ 5 ∧ 0 ≤ f ∧ f ≤ 3 then ((S.1, S.2.1, (fun j => if (j : Int) = s then f else S.2.2.1 j), S.2.2.2), true) else (S, false)
noncomputable def opSelect (S : AS) (k : Int) : AS × Int := (clr S, match atI S.2.1 k, pPl S.1.1 S.1.2 with
  | some x, some pl => sel x.2.2.1 pl
  | _, _ => -1)
/-- states are set up: events, those that are up, whether one failed -/
def upE (hs : Nat → Int) : List Int → List Int × List Int × Bool
  | [] => ([], [], false)
  | s :: r => if hs s.toNat = 0 ∨ hs s.toNat = 2 then ([10 * s + 2], [], true) else (10 * s :: (upE hs r).1, s :: (upE hs r).2.1, (upE hs r).2.2)
def tdE (hs : Nat → Int) (s : Int) : Int := 10 * s + (if hs s.toNat = 3 then 3 else 1)
noncomputable def opVerify (S : AS) (k : Int) : AS × Int × Int := match atI S.2.1 k, pW S.1.1 S.1.2 with
  | some x, some v => (match x.2.1 with
    | none => (clr S, 2, 0)
    | some b => (((T0, 0), S.2.1, S.2.2.1, S.2.2.2.1 ++ (upE S.2.2.1 x.2.2.2).1 ++ ((upE S.2.2.1 x.2.2.2).2.1.reverse.map (tdE S.2.2.1)), if (upE S.2.2.1 x.2.2.2).2.2 = true then S.2.2.2.2 else (cmp x.2.2.1 x.1 5 [] b v).take 30), 0, if (upE S.2.2.1 x.2.2.2).2.2 = true then -3 else ((cmp x.2.2.1 x.1 5 [] b v).length : Int)))
  | _, _ => (clr S, 1, 0)
/-- the signs of a long -/
def byt (w : Int) (k : Nat) : Int := (w / (256 : Int) ^ k) % 256
def chs (w : Int) : List Int := ([7, 6, 5, 4, 3, 2, 1, 0].map (byt w)).filter (fun c => decide (c ≠ 0))
def addT (T : Tx) (N : Nat) (cs : List Int) : Tx := fun k => if k < N then T k else cs.getD (k - N) 0
def opWrite (S : AS) (w : Int) : AS × Bool := if (∀ c ∈ chs w, 32 ≤ c ∧ c ≤ 126) ∧ S.1.2 + (chs w).length ≤ 100 then (((addT S.1.1 S.1.2 (chs w), S.1.2 + (chs w).length), S.2), true) else (S, false)
