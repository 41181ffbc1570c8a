/-! the component: how a tree stands in the heap -/
/-- a token from lo + 1 on, up to hi -/
def RT (h : AH) (s0 : State) (lo hi : Nat) (t : List Int) : Prop := if t.headD 0 = 34 then hi = lo + 3 ∧ gT h (lo + 1) = (10, 1) ∧ gR h (lo + 1) 0 = lo + 2 ∧ SBt h (lo + 2) (lo + 3) 12 (strL t) else hi = lo + 1 ∧ gT h (lo + 1) = (11, 2) ∧ gR h (lo + 1) 0 = spt s0 (kdC (t.headD 0)).toNat ∧ gI h (lo + 1) 1 = num t
/-- a chain of members, the last one's next is e -/
def RMe {α : Type} (R : Nat → Nat → α → Prop) (h : AH) (e : Nat) : Nat → Nat → List (Int × α) → Nat → Nat → Prop
  | lo, q, [], hi, L => q = e ∧ lo = hi ∧ L = 0
  | lo, q, x :: r, hi, L => q = lo + 1 ∧ gT h (lo + 1) = (13, 3) ∧ gI h (lo + 1) 0 = x.1 ∧ gR h (lo + 1) 1 = lo + 2 ∧ ∃ mid, lo + 1 < mid ∧ R (lo + 1) mid x.2 ∧ RMe R h e mid (gR h (lo + 1) 2) r hi (if r = [] then 0 else L) ∧ (r = [] → L = lo + 1)
def RV (h : AH) (s0 : State) : (d : Nat) → Nat → Nat → VT d → Prop
  | 0, lo, hi, t => RT h s0 lo hi t
  | _ + 1, lo, hi, .inl t => RT h s0 lo hi t
  | d + 1, lo, hi, .inr (b, ms) => gT h (lo + 1) = (12, 4) ∧ gR h (lo + 1) 0 = spt s0 (if b = true then 5 else 4) ∧ gI h (lo + 1) 3 = (ms.length : Int) ∧ RMe (RV h s0 d) h 0 (lo + 1) (gR h (lo + 1) 1) ms hi (gR h (lo + 1) 2)
theorem SBt.T {h h' : AH} {p v c : Nat} {t : List Int} (ep : gT h' p = gT h p ∧ ∀ k, gI h' p k = gI h p k ∧ gR h' p k = gR h p k) (ev : gT h' v = gT h v ∧ ∀ k, gI h' v k = gI h v k ∧ gR h' v k = gR h v k) (H : SBt h p v c t) : SBt h' p v c t := by
  obtain ⟨⟨a1, a2, a3, a4, a5, a6, a7, a8⟩, a9⟩ := H
  exact ⟨⟨by rw [ep.1]; exact a1, by rw [(ep.2 _).2]; exact a2, by rw [(ep.2 _).1]; exact a3, by rw [(ep.2 _).1]; exact a4, by rw [ev.1]; exact a5, a6, a7, fun k hk => by rw [(ev.2 _).1]; exact a8 k hk⟩, fun j hj => by rw [(ev.2 _).1]; exact a9 j hj⟩
/-- the cells between lo and hi are as they were -/
abbrev Sm (lo hi : Nat) (h h' : AH) : Prop := ∀ q, lo < q → q ≤ hi → gT h' q = gT h q ∧ ∀ k, gI h' q k = gI h q k ∧ gR h' q k = gR h q k
theorem RT.T {h h' : AH} {s0 : State} {lo hi : Nat} {t : List Int} (H : RT h s0 lo hi t) (e : Sm lo hi h h') : RT h' s0 lo hi t := by
  unfold RT at H ⊢
  split at H
  · next q =>
    rw [if_pos q]
    obtain ⟨h1, h2, h3, h4⟩ := H
    have e1 := e (lo + 1) (by omega) (by omega)
    exact ⟨h1, by rw [e1.1]; exact h2, by rw [(e1.2 _).2]; exact h3, h4.T (e (lo + 2) (by omega) (by omega)) (e (lo + 3) (by omega) (by omega))⟩
  · next q =>
    rw [if_neg q]
    obtain ⟨h1, h2, h3, h4⟩ := H
    have e1 := e (lo + 1) (by omega) (by omega)
    exact ⟨h1, by rw [e1.1]; exact h2, by rw [(e1.2 _).2]; exact h3, by rw [(e1.2 _).1]; exact h4⟩
theorem RMe.le {α : Type} {R : Nat → Nat → α → Prop} {h : AH} {e : Nat} : ∀ (ms : List (Int × α)) (lo q hi L : Nat), RMe R h e lo q ms hi L → lo ≤ hi ∧ (ms ≠ [] → lo < L ∧ L < hi)
  | [], lo, q, hi, L, H => ⟨by have := H.2.1; omega, fun z => absurd rfl z⟩
  | x :: r, lo, q, hi, L, H => by
    obtain ⟨h1, h2, h3, h4, mid, h5, h6, h7, h8⟩ := H
    have ih := RMe.le r _ _ _ _ h7
    refine ⟨by omega, fun _ => ?_⟩
    by_cases hr : r = []
    · have := h8 hr
      omega
    · rw [if_neg hr] at ih
      have := ih.2 hr
      omega
theorem RMe.T {α : Type} {R R' : Nat → Nat → α → Prop} {h h' : AH} {e : Nat} : ∀ (ms : List (Int × α)) (lo q hi L : Nat), RMe R h e lo q ms hi L → (∀ a b v, lo ≤ a → b ≤ hi → R a b v → R' a b v) → Sm lo hi h h' → RMe R' h' e lo q ms hi L
  | [], lo, q, hi, L, H, _, _ => H
  | x :: r, lo, q, hi, L, H, hR, e' => by
    obtain ⟨h1, h2, h3, h4, mid, h5, h6, h7, h8⟩ := H
    have ih := RMe.le r _ _ _ _ h7
    have e1 := e' (lo + 1) (by omega) (by omega)
    refine ⟨h1, by rw [e1.1]; exact h2, by rw [(e1.2 _).1]; exact h3, by rw [(e1.2 _).2]; exact h4, mid, h5, hR _ _ _ (by omega) (by omega) h6, ?_, h8⟩
    rw [(e1.2 2).2]
    exact RMe.T r mid _ hi _ h7 (fun a b v h1 h2 => hR a b v (by omega) h2) (fun q q1 q2 => e' q (by omega) q2)
theorem RV.T {h h' : AH} {s0 : State} : ∀ (d lo hi : Nat) (v : VT d), RV h s0 d lo hi v → Sm lo hi h h' → RV h' s0 d lo hi v
  | 0, lo, hi, t, H, e => RT.T H e
  | d + 1, lo, hi, .inl t, H, e => RT.T (show RT h s0 lo hi t from H) e
  | d + 1, lo, hi, .inr (b, ms), H, e => by
    obtain ⟨h1, h2, h3, h4⟩ := H
    have hl := RMe.le _ _ _ _ _ h4
    have e1 := e (lo + 1) (by omega) (by omega)
    refine ⟨by rw [e1.1]; exact h1, by rw [(e1.2 _).2]; exact h2, by rw [(e1.2 _).1]; exact h3, ?_⟩
    rw [(e1.2 _).2, (e1.2 _).2]
    exact RMe.T ms _ _ _ _ h4 (fun a b v h1 h2 hv => RV.T d a b v hv (fun q q1 q2 => e q (by omega) (by omega))) (fun q q1 q2 => e q (by omega) q2)
theorem RV.lt {h : AH} {s0 : State} : ∀ (d lo hi : Nat) (v : VT d), RV h s0 d lo hi v → lo < hi
  | 0, lo, hi, t, H => by
    have H' : RT h s0 lo hi t := H
    unfold RT at H'
    split at H'
    · have := H'.1; omega
    · have := H'.1; omega
  | d + 1, lo, hi, .inl t, H => by
    have H' : RT h s0 lo hi t := H
    unfold RT at H'
    split at H'
    · have := H'.1; omega
    · have := H'.1; omega
  | d + 1, lo, hi, .inr (b, ms), H => by
    have := (RMe.le _ _ _ _ _ H.2.2.2).1
    omega
theorem Sm.fr {W : Nat → Nat → Prop} {b lo hi : Nat} {h h' : AH} (x : Fr W b h h') (hh : hi ≤ hN h) (hw : ∀ p k, lo < p → p ≤ hi → ¬ W p k) : Sm lo hi h h' := fun q q1 q2 => ⟨x.T (by omega), fun k => ⟨x.I (by omega) (hw q k q1 q2), x.R (by omega) (hw q k q1 q2)⟩⟩
theorem rme_link {s0 : State} {h : AH} {e e' d : Nat} : ∀ (ms : List (Int × VT d)) (lo q hi L : Nat), ms ≠ [] → RMe (RV h s0 d) h e lo q ms hi L → RMe (RV (sR h L 2 e') s0 d) (sR h L 2 e') e' lo q ms hi L
  | [], lo, q, hi, L, hn, H => absurd rfl hn
  | x :: r, lo, q, hi, L, hn, H => by
    have hle := (RMe.le _ _ _ _ _ H).2 hn
    obtain ⟨h1, h2, h3, h4, mid, h5, h6, h7, h8⟩ := H
    by_cases hr : r = []
    · subst hr
      have hL := h8 rfl
      subst hL
      refine ⟨h1, by rw [gT_sR]; exact h2, by rw [gI_sR]; exact h3, by rw [gR_sR, if_neg (by omega)]; exact h4, mid, h5, RV.T d _ _ _ h6 (fun q q1 q2 => ⟨by rw [gT_sR], fun k => ⟨by rw [gI_sR], by rw [gR_sR, if_neg (by omega)]⟩⟩), ?_, h8⟩
      simp only [if_true] at h7 ⊢
      exact ⟨by rw [gR_sR, if_pos ⟨rfl, rfl⟩], h7.2.1, rfl⟩
    · have ih := RMe.le r _ _ _ _ h7
      rw [if_neg hr] at h7 ih
      have hL := ih.2 hr
      refine ⟨h1, by rw [gT_sR]; exact h2, by rw [gI_sR]; exact h3, by rw [gR_sR, if_neg (by omega)]; exact h4, mid, h5, RV.T d _ _ _ h6 (fun q q1 q2 => ⟨by rw [gT_sR], fun k => ⟨by rw [gI_sR], by rw [gR_sR, if_neg (by omega)]⟩⟩), ?_, h8⟩
      rw [if_neg hr, gR_sR, if_neg (by omega)]
      exact rme_link r mid _ hi L hr h7
/-- one more at the end -/
theorem rme_snoc {α : Type} {R : Nat → Nat → α → Prop} {h : AH} {x : Int × α} {mid : Nat} : ∀ (ms : List (Int × α)) (lo q hi L : Nat), RMe R h (hi + 1) lo q ms hi L → gT h (hi + 1) = (13, 3) → gI h (hi + 1) 0 = x.1 → gR h (hi + 1) 1 = hi + 2 → gR h (hi + 1) 2 = 0 → hi + 1 < mid → R (hi + 1) mid x.2 → RMe R h 0 lo q (ms ++ [x]) mid (hi + 1)
  | [], lo, q, hi, L, H, g1, g2, g3, g4, g5, g6 => by
    obtain ⟨h1, h2, h3⟩ := H
    subst h2
    exact ⟨h1, g1, g2, g3, mid, g5, g6, ⟨g4, rfl, rfl⟩, fun _ => rfl⟩
  | y :: r, lo, q, hi, L, H, g1, g2, g3, g4, g5, g6 => by
    obtain ⟨h1, h2, h3, h4, mid', h5, h6, h7, h8⟩ := H
    have ih := rme_snoc r mid' _ hi _ h7 g1 g2 g3 g4 g5 g6
    have hne : r ++ [x] ≠ [] := by simp
    refine ⟨h1, h2, h3, h4, mid', h5, h6, ?_, fun z => absurd z hne⟩
    show RMe R h 0 mid' _ (r ++ [x]) mid (if r ++ [x] = [] then 0 else hi + 1)
    rw [if_neg hne]
    exact ih
