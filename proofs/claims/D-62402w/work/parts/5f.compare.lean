/-! the reference: what is inside comes onto the pile -/
abbrev CP (m n sp p k : Nat) : Prop := p = m ∧ (k = 13 ∨ k = 19 ∨ k = 22 ∨ k = 27) ∨ m + 10 ≤ p ∧ p ≤ m + 12 ∨ (p = m + 15 ∨ p = m + 16) ∧ sp ≤ k ∨ m + 17 ≤ p ∧ p ≤ m + 20 ∧ n ≤ k ∨ m + 21 ≤ p ∧ p ≤ m + 27
abbrev EqC (m n sp : Nat) (h h' : AH) : Prop := EqP (CP m n sp) h h'
theorem EqC.mv {m n sp : Nat} {h h' : AH} (a : EqC m n sp h h') (M : MV h m) : MV h' m := EqP.tMV a (by omega) (by omega) (fun _ => by omega) M
theorem EqC.va {m n sp : Nat} {h h' : AH} (a : EqC m n sp h h') {d p : Nat} {v : VT d} (H : VA h m d p v) : VA h' m d p v := H.T (fun k => EqP.I a (by omega))
theorem EqC.sp {m n sp : Nat} {h h' : AH} (a : EqC m n sp h h') {s : Nat} {r : List Int} (hs : s < sp) (H : SPr h m s r) : SPr h' m s r := H.T (b := sp) (fun k hk => ⟨EqP.I a (by omega), EqP.I a (by omega)⟩) r s hs
def KJ (h : AH) (m n sp : Nat) (pl : List Int) {d : Nat} (j : KD d) : Prop := gI h (m + 17) n = j.1 ∧ (∃ s : Nat, s < sp ∧ gI h (m + 20) n = (s : Int) ∧ SPr h m s (pl ++ [j.2.1]).reverse) ∧ ∀ u v, j.2.2 = some (u, v) → ∃ qe qa : Nat, gI h (m + 18) n = (qe : Int) ∧ gI h (m + 19) n = (qa : Int) ∧ VA h m d qe u ∧ VA h m d qa v
theorem KJ.T {h h' : AH} {m n n' sp sp' : Nat} {pl : List Int} {d : Nat} {j : KD d} (a : EqC m n' sp' h h') (hn : n < n') (hs : sp ≤ sp') (H : KJ h m n sp pl j) : KJ h' m n sp pl j := by
  obtain ⟨h1, ⟨s, h2, h3, h4⟩, h5⟩ := H
  refine ⟨by rw [EqP.I a (by omega)]; exact h1, ⟨s, h2, by rw [EqP.I a (by omega)]; exact h3, a.sp (by omega) h4⟩, fun u v huv => ?_⟩
  obtain ⟨qe, qa, q1, q2, q3, q4⟩ := h5 u v huv
  exact ⟨qe, qa, by rw [EqP.I a (by omega)]; exact q1, by rw [EqP.I a (by omega)]; exact q2, a.va q3, a.va q4⟩
def PIL (h : AH) (m n sp : Nat) (pl : List Int) {d : Nat} : List (KD d) → Prop
  | [] => True
  | x :: r => KJ h m (n + r.length) sp pl x ∧ PIL h m n sp pl r
theorem PIL.T {h h' : AH} {m n n' sp sp' : Nat} {pl : List Int} {d : Nat} (a : EqC m n' sp' h h') (hs : sp ≤ sp') : ∀ (ks : List (KD d)), n + ks.length ≤ n' → PIL h m n sp pl ks → PIL h' m n sp pl ks
  | [], _, _ => trivial
  | x :: r, hn, H => by
    simp only [List.length_cons] at hn
    exact ⟨H.1.T a (by omega) hs, PIL.T a hs r (by omega) H.2⟩
theorem PIL.sp {h : AH} {m n sp sp' : Nat} {pl : List Int} {d : Nat} (hs : sp ≤ sp') : ∀ (ks : List (KD d)), PIL h m n sp pl ks → PIL h m n sp' pl ks
  | [], _ => trivial
  | x :: r, H => by
    obtain ⟨⟨h1, ⟨s, h2, h3⟩, h5⟩, h6⟩ := H
    exact ⟨⟨h1, ⟨s, by omega, h3⟩, h5⟩, PIL.sp hs r h6⟩
abbrev JP (m n sp p k : Nat) : Prop := p = m ∧ (k = 19 ∨ k = 22) ∨ (p = m + 15 ∨ p = m + 16) ∧ sp ≤ k ∨ m + 17 ≤ p ∧ p ≤ m + 20 ∧ n ≤ k
abbrev EqJ (m n sp : Nat) (h h' : AH) : Prop := EqP (JP m n sp) h h'
theorem EqJ.c {m n sp : Nat} {h h' : AH} (a : EqJ m n sp h h') : EqC m n sp h h' := EqP.mono a (fun _ _ q => by omega)
theorem EqJ.mono {m n n' sp sp' : Nat} {h h' : AH} (a : EqJ m n' sp' h h') (hn : n ≤ n') (hs : sp ≤ sp') : EqJ m n sp h h' := EqP.mono a (fun _ _ q => by omega)
/-- the heap after one more -/
abbrev ppH (h : AH) (m n sp : Nat) (o st w e a : Int) : AH := puH (plH h m sp o st) m n w e a (sp : Int)
theorem plH_eq {h : AH} {m n sp : Nat} {o st : Int} : EqJ m n sp h (plH h m sp o st) := EqP.trans (EqP.trans (EqP.sI (by omega)) (EqP.sI (by omega))) (EqP.sI (by omega))
theorem puH_eq {h : AH} {m n sp : Nat} {w e a s : Int} : EqJ m n sp h (puH h m n w e a s) := EqP.trans (EqP.trans (EqP.trans (EqP.trans (EqP.sI (by omega)) (EqP.sI (by omega))) (EqP.sI (by omega))) (EqP.sI (by omega))) (EqP.sI (by omega))
theorem EqC.mono {m n n' sp sp' : Nat} {h h' : AH} (a : EqC m n' sp' h h') (hn : n ≤ n') (hs : sp ≤ sp') : EqC m n sp h h' := EqP.mono a (fun _ _ q => by omega)
/-- so much is on the pile -/
def PS (h0 : AH) (m n sp : Nat) (pl : List Int) {d : Nat} (ks : List (KD d)) (h : AH) : Prop := EqJ m n sp h0 h ∧ PIL h m n (sp + ks.length) pl ks ∧ gI h m 22 = ((n + ks.length : Nat) : Int) ∧ gI h m 19 = ((sp + ks.length : Nat) : Int)
theorem ps_push {h0 h : AH} {m n sp s : Nat} {pl : List Int} {d : Nat} {ks : List (KD d)} {j : KD d} {e a : Int} (H : PS h0 m n sp pl ks h) (hs : s < sp) (hsp : 0 < sp) (hsp2 : sp + ks.length < 768) (hS : SPr h0 m s pl.reverse) (hj : ∀ u v, j.2.2 = some (u, v) → ∃ qe qa : Nat, e = qe ∧ a = qa ∧ VA h0 m d qe u ∧ VA h0 m d qa v) : PS h0 m n sp pl (j :: ks) (ppH h m (n + ks.length) (sp + ks.length) (s : Int) (mst j.2.1) j.1 e a) := by
  obtain ⟨h1, h2, h3, h4⟩ := H
  have g1 : EqJ m (n + ks.length) (sp + ks.length) h (plH h m (sp + ks.length) (s : Int) (mst j.2.1)) := plH_eq
  have g2 : EqJ m (n + ks.length) (sp + ks.length) h (ppH h m (n + ks.length) (sp + ks.length) (s : Int) (mst j.2.1) j.1 e a) := EqP.trans g1 puH_eq
  have E : EqJ m n sp h0 (ppH h m (n + ks.length) (sp + ks.length) (s : Int) (mst j.2.1) j.1 e a) := EqP.trans h1 (g2.mono (by omega) (by omega))
  refine ⟨E, ⟨⟨?_, ⟨sp + ks.length, by simp only [List.length_cons]; omega, ?_, ?_⟩, fun u v huv => ?_⟩, ?_⟩, ?_, ?_⟩
  · unfold ppH puH
    simp only [gI_sI]
    rw [if_neg (by omega), if_neg (by omega), if_neg (by omega), if_neg (by omega), if_pos (by simp)]
  · unfold ppH puH
    simp only [gI_sI]
    rw [if_neg (by omega), if_pos (by simp)]
  · rw [List.reverse_append]
    refine ⟨by omega, hsp2, ?_, s, by omega, ?_, E.c.sp hs hS⟩
    · unfold ppH puH plH
      simp only [gI_sI]
      rw [if_neg (by omega), if_neg (by omega), if_neg (by omega), if_neg (by omega), if_neg (by omega), if_neg (by omega), if_pos (by simp)]
    · unfold ppH puH plH
      simp only [gI_sI]
      rw [if_neg (by omega), if_neg (by omega), if_neg (by omega), if_neg (by omega), if_neg (by omega), if_neg (by omega), if_neg (by omega), if_pos (by simp)]
  · obtain ⟨qe, qa, q1, q2, q3, q4⟩ := hj u v huv
    refine ⟨qe, qa, ?_, ?_, E.c.va q3, E.c.va q4⟩
    · unfold ppH puH
      simp only [gI_sI]
      rw [if_neg (by omega), if_neg (by omega), if_neg (by omega), if_pos (by simp)]; exact q1
    · unfold ppH puH
      simp only [gI_sI]
      rw [if_neg (by omega), if_neg (by omega), if_pos (by simp)]; exact q2
  · exact PIL.sp (by simp only [List.length_cons]; omega) ks (PIL.T g2.c (Nat.le_refl _) ks (Nat.le_refl _) h2)
  · unfold ppH puH
    simp only [gI_sI]
    rw [if_pos (by simp)]; rfl
  · unfold ppH puH plH
    simp only [gI_sI]
    rw [if_neg (by omega), if_neg (by omega), if_neg (by omega), if_neg (by omega), if_neg (by omega), if_pos (by simp)]; rfl
theorem PS.base {h0 h1 h : AH} {m n sp : Nat} {pl : List Int} {d : Nat} {ks : List (KD d)} (H : PS h1 m n sp pl ks h) (e : EqJ m n sp h0 h1) : PS h0 m n sp pl ks h := ⟨EqP.trans e H.1, H.2⟩
theorem ps_nil {h : AH} {m n sp : Nat} {pl : List Int} {d : Nat} (h22 : gI h m 22 = (n : Int)) (h19 : gI h m 19 = (sp : Int)) : PS h m n sp pl ([] : List (KD d)) h := ⟨EqP.rfl, trivial, h22, h19⟩
/-- what one place brings -/
def CQ (m n sp : Nat) (pl : List Int) (ms own : List MM) {d : Nat} (ks : List (KD d)) (h : AH) (o : AO) (h' : AH) : Prop := o = .inl (some (vI (own.length : Nat))) ∧ EqC m n sp h h' ∧ PIL h' m n (sp + ks.length) pl ks ∧ gI h' m 22 = ((n + ks.length : Nat) : Int) ∧ gI h' m 19 = ((sp + ks.length : Nat) : Int) ∧ MLs h' m ((ms ++ own).take 30)
