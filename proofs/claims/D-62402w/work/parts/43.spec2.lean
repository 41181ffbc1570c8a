/-! what is read stands in the text -/
theorem tok_seg (T : Tx) (k n : Nat) : Tok T k (seg T k n) := by
  intro j hj
  rw [seg_len] at hj
  exact (seg_get T n k j hj).symm
theorem pK_ok {T : Tx} {b : Bool} {acc : List Int} {k : Nat} {c : Int} {k1 : Nat} (h : pK T b acc k = some (c, k1)) :
    k1 = k + mw b 0 ∧ (b = true → T k = 34 ∧ T (k + 1) = c ∧ T (k + 2) = 34 ∧ T (k + 3) = 58 ∧ isLet c ∧ c ∉ acc) ∧ (b = false → c = 0) := by
  unfold pK at h
  cases b with
  | false =>
    simp only [Bool.false_eq_true, if_false, Option.some.injEq, Prod.mk.injEq] at h
    exact ⟨by simp [mw, ← h.2], fun e => by simp at e, fun _ => h.1.symm⟩
  | true =>
    simp only [if_true] at h
    split at h
    · next q =>
      simp only [Option.some.injEq, Prod.mk.injEq] at h
      obtain ⟨h1, h2⟩ := h
      subst h1
      exact ⟨by simp [mw, ← h2], fun _ => ⟨q.1, rfl, q.2.2.1, q.2.2.2.1, q.2.1, q.2.2.2.2⟩, fun e => by simp at e⟩
    · simp at h
theorem pM_ok {α : Type} {T : Tx} {b : Bool} {f : Nat → Option (α × Nat)} {L : Nat → α → Prop} {g : α → Nat} {W : α → Prop} (hf : ∀ k v k', f k = some (v, k') → W v ∧ L k v ∧ k' = k + g v) :
    ∀ (n : Nat) (acc : List (Int × α)) (k : Nat) (ms : List (Int × α)) (k' : Nat), pM T b f n acc k = some (ms, k') →
      ∃ ns, ms = acc ++ ns ∧ ns ≠ [] ∧ LayS T b L g k ns ∧ k' = k + sumL (fun x => mw b (g x.2) + 1) ns ∧ (∀ x ∈ ns, W x.2 ∧ (b = true → isLet x.1) ∧ (b = false → x.1 = 0)) ∧
        (b = true → (acc.map (fun x => x.1)).Nodup → (ms.map (fun x => x.1)).Nodup)
  | 0, _, _, _, _, h => by simp [pM] at h
  | n + 1, acc, k, ms, k', h => by
    unfold pM at h
    split at h
    · simp at h
    · next c k1 e1 =>
      split at h
      · simp at h
      · next v k2 e2 =>
        obtain ⟨a1, a2, a3⟩ := pK_ok e1
        obtain ⟨b1, b2, b3⟩ := hf _ _ _ e2
        have hk2 : k2 = k + mw b (g v) := by cases b <;> simp [mw] at a1 ⊢ <;> omega
        have hnd : b = true → (acc.map (fun x => x.1)).Nodup → ((acc ++ [(c, v)]).map (fun x => x.1)).Nodup := by
          intro hb h1
          rw [List.map_append, List.nodup_append]
          refine ⟨h1, by simp, fun x hx y hy => ?_⟩
          simp only [List.map_cons, List.map_nil, List.mem_singleton] at hy
          subst hy
          intro e
          subst e
          exact (a2 hb).2.2.2.2.2 hx
        have hkey : (b = true → T k = 34 ∧ T (k + 1) = c ∧ T (k + 2) = 34 ∧ T (k + 3) = 58) := fun hb => ⟨(a2 hb).1, (a2 hb).2.1, (a2 hb).2.2.1, (a2 hb).2.2.2.1⟩
        have hw : W v ∧ (b = true → isLet c) ∧ (b = false → c = 0) := ⟨b1, fun hb => (a2 hb).2.2.2.2.1, a3⟩
        split at h
        · next e3 =>
          obtain ⟨ns, q1, q2, q3, q4, q5, q6⟩ := pM_ok hf n _ _ _ _ h
          refine ⟨(c, v) :: ns, by rw [q1]; simp, by simp, ⟨hkey, by rw [← a1]; exact b2, ?_, by rw [← hk2]; exact q3⟩, ?_, ?_, fun hb h1 => q6 hb (hnd hb h1)⟩
          · rw [← hk2, e3]
            cases ns with
            | nil => exact absurd rfl q2
            | cons _ _ => rfl
          · rw [q4, sumL]; simp only []; omega
          · intro x hx
            rcases List.mem_cons.mp hx with rfl | hx
            · exact hw
            · exact q5 x hx
        · split at h
          · next e3 =>
            simp only [Option.some.injEq, Prod.mk.injEq] at h
            obtain ⟨h1, h2⟩ := h
            refine ⟨[(c, v)], h1.symm, by simp, ⟨hkey, by rw [← a1]; exact b2, by rw [← hk2, e3]; rfl, trivial⟩, by simp only [sumL]; omega, ?_, fun hb h3 => by rw [← h1]; exact hnd hb h3⟩
            intro x hx
            rw [List.mem_singleton] at hx
            subst hx
            exact hw
          · simp at h
theorem opn_dec {c : Int} (h : c = 91 ∨ c = 123) : c = opn (decide (c = 123)) := by
  rcases h with rfl | rfl <;> simp [opn]
theorem pV_ok (T : Tx) (n : Nat) : ∀ (d k : Nat) (v : VT d) (k' : Nat), pV T n d k = some (v, k') → WF d v ∧ Lay T d k v ∧ k' = k + len d v
  | 0, k, v, k', h => by
    unfold pV at h
    split at h
    · simp at h
    · split at h
      · simp at h
      · next h2 =>
        obtain ⟨h1, h3⟩ := Prod.mk.inj (Option.some.inj h)
        subst h1
        exact ⟨plen_PT T k h2, tok_seg T k _, by rw [← h3]; simp only [len, seg_len]⟩
  | d + 1, k, v, k', h => by
    unfold pV at h
    split at h
    · next h0 =>
      split at h
      · simp at h
      · next ms k2 e =>
        obtain ⟨h1, h3⟩ := Prod.mk.inj (Option.some.inj h)
        subst h1
        subst h3
        unfold pG at e
        split at e
        · next h4 =>
          simp only [Option.some.injEq, Prod.mk.injEq] at e
          obtain ⟨e1, e2⟩ := e
          subst e1
          exact ⟨⟨fun x hx => by simp at hx, fun _ => by simp⟩, ⟨opn_dec h0, fun _ => h4, trivial⟩, by rw [← e2]; simp [len]⟩
        · obtain ⟨ns, q1, q2, q3, q4, q5, q6⟩ := pM_ok (pV_ok T n d) _ _ _ _ _ e
          simp only [List.nil_append] at q1
          subst q1
          refine ⟨⟨q5, fun hb => q6 hb (by simp)⟩, ⟨opn_dec h0, fun h => absurd h q2, q3⟩, ?_⟩
          have : List.isEmpty ms = false := by cases ms with | nil => exact absurd rfl q2 | cons _ _ => rfl
          simp only [len, this]
          simp only [Bool.false_eq_true, if_false]
          omega
    · split at h
      · simp at h
      · next h2 =>
        obtain ⟨h1, h3⟩ := Prod.mk.inj (Option.some.inj h)
        subst h1
        exact ⟨plen_PT T k h2, tok_seg T k _, by rw [← h3]; simp only [len, seg_len]⟩
/-- signs of plain values -/
theorem PT_sign {t : List Int} (h : PT t) : t ≠ [] ∧ ∀ c ∈ t, (48 ≤ c ∧ c ≤ 57) ∨ (97 ≤ c ∧ c ≤ 122) ∨ c = 34 ∨ c = 45 := by
  rcases h with rfl | rfl | rfl | ⟨ls, rfl, _, h⟩ | rfl | ⟨_, ⟨c, r, rfl, _⟩, h⟩ | ⟨ds, rfl, _, _, h⟩
  · exact ⟨by simp, by simp⟩
  · exact ⟨by simp, by simp⟩
  · exact ⟨by simp, by simp⟩
  · refine ⟨by simp, fun c hc => ?_⟩
    simp only [List.mem_cons, List.mem_append, List.not_mem_nil, or_false] at hc
    rcases hc with rfl | hc | rfl
    · omega
    · have := h c hc; unfold isLet at this; omega
    · omega
  · exact ⟨by simp, by simp⟩
  · refine ⟨by simp, fun c hc => ?_⟩
    have := h c hc; unfold isDig at this; omega
  · refine ⟨by simp, fun c hc => ?_⟩
    rcases List.mem_cons.mp hc with rfl | hc
    · omega
    · have := h c hc; unfold isDig at this; omega
theorem PT_len {t : List Int} (h : PT t) : 0 < t.length ∧ t.length ≤ 14 := by
  rcases h with rfl | rfl | rfl | ⟨ls, rfl, h, _⟩ | rfl | ⟨h, ⟨c, r, rfl, _⟩, _⟩ | ⟨ds, rfl, h, _, _⟩
  all_goals simp at *
  all_goals omega
theorem getD_mem {t : List Int} {j : Nat} (h : j < t.length) : t.getD j 0 ∈ t := by
  rw [List.getD_eq_getElem?_getD, List.getElem?_eq_getElem h]
  exact List.getElem_mem h
theorem tok_sign {A : Tx} {p : Nat} {t : List Int} (ht : PT t) (hl : Tok A p t) {j : Nat} (hj : j < t.length) : (48 ≤ A (p + j) ∧ A (p + j) ≤ 57) ∨ (97 ≤ A (p + j) ∧ A (p + j) ≤ 122) ∨ A (p + j) = 34 ∨ A (p + j) = 45 := by
  rw [hl j hj]
  exact (PT_sign ht).2 _ (getD_mem hj)
theorem sum_pos {α : Type} (f : Int × α → Nat) : ∀ ms : List (Int × α), ms ≠ [] → (∀ x, 1 ≤ f x) → 1 ≤ sumL f ms
  | [], h, _ => absurd rfl h
  | x :: r, _, h => by have := h x; rw [sumL]; omega
theorem layS_last {α : Type} {A : Tx} {b : Bool} {L : Nat → α → Prop} {g : α → Nat} : ∀ (ms : List (Int × α)) (p : Nat), ms ≠ [] → LayS A b L g p ms → A (p + sumL (fun x => mw b (g x.2) + 1) ms - 1) = clo b
  | [], _, h, _ => absurd rfl h
  | [x], p, _, h => by
    have := h.2.2.1
    simp only [sumL]
    rw [show p + (mw b (g x.2) + 1 + 0) - 1 = p + mw b (g x.2) by omega, this]
    rfl
  | x :: y :: r, p, _, h => by
    have h1 := layS_last (y :: r) _ (by simp) h.2.2.2
    have h2 : 1 ≤ sumL (fun x => mw b (g x.2) + 1) (y :: r) := sum_pos _ _ (by simp) (fun _ => by omega)
    rw [sumL, show p + (mw b (g x.2) + 1 + sumL (fun x => mw b (g x.2) + 1) (y :: r)) - 1 = p + mw b (g x.2) + 1 + sumL (fun x => mw b (g x.2) + 1) (y :: r) - 1 by omega]
    exact h1
theorem clo_pos (b : Bool) : clo b ≠ 0 := by cases b <;> simp [clo]
theorem lay_last {A : Tx} : ∀ (d p : Nat) (v : VT d), WF d v → Lay A d p v → 0 < len d v ∧ A (p + len d v - 1) ≠ 0
  | 0, p, t, hw, hl => by
    have h1 := (PT_len hw).1
    have h2 := tok_sign hw hl (j := List.length t - 1) (by omega)
    simp only [len]
    refine ⟨h1, ?_⟩
    rw [show p + List.length t - 1 = p + (List.length t - 1) by omega]
    omega
  | d + 1, p, .inl t, hw, hl => by
    have h1 := (PT_len hw).1
    have h2 := tok_sign hw hl (j := List.length t - 1) (by omega)
    simp only [len]
    refine ⟨h1, ?_⟩
    rw [show p + List.length t - 1 = p + (List.length t - 1) by omega]
    omega
  | d + 1, p, .inr (b, ms), hw, hl => by
    cases ms with
    | nil =>
      simp only [len, List.isEmpty_nil, if_true]
      refine ⟨by omega, ?_⟩
      rw [show p + 2 - 1 = p + 1 by omega, hl.2.1 rfl]
      exact clo_pos b
    | cons x r =>
      have h1 := layS_last (x :: r) (p + 1) (by simp) hl.2.2
      have h2 : 1 ≤ sumL (fun x => mw b (len d x.2) + 1) (x :: r) := sum_pos _ _ (by simp) (fun _ => by omega)
      simp only [len, List.isEmpty_cons, Bool.false_eq_true, if_false]
      refine ⟨by omega, ?_⟩
      rw [show p + (1 + sumL (fun x => mw b (len d x.2) + 1) (x :: r)) - 1 = p + 1 + sumL (fun x => mw b (len d x.2) + 1) (x :: r) - 1 by omega, h1]
      exact clo_pos b
/-- a text: N signs, then nothing -/
def TT (T : Tx) (N : Nat) : Prop := N ≤ 100 ∧ (∀ k, k < N → 32 ≤ T k ∧ T k ≤ 126) ∧ ∀ k, N ≤ k → T k = 0
theorem TT.lt {T : Tx} {N : Nat} (h : TT T N) {k : Nat} (h1 : T k ≠ 0) : k < N := by
  apply Classical.byContradiction
  intro h2
  exact h1 (h.2.2 k (by omega))
theorem pV_le {T : Tx} {N n d k : Nat} {v : VT d} {k' : Nat} (hT : TT T N) (h : pV T n d k = some (v, k')) : k < k' ∧ k' ≤ N := by
  obtain ⟨h1, h2, h3⟩ := pV_ok T n d k v k' h
  obtain ⟨h4, h5⟩ := lay_last d k v h1 h2
  have := hT.lt h5
  omega
theorem plen_leN {T : Tx} {N k : Nat} (hT : TT T N) (h : plen T k ≠ 0) : k + plen T k ≤ N := by
  have h1 := tok_sign (plen_PT T k h) (tok_seg T k _) (j := plen T k - 1) (by rw [seg_len]; omega)
  have := hT.lt (k := k + (plen T k - 1)) (by omega)
  omega
