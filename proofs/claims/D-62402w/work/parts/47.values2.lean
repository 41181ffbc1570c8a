/-! whether the text is a value: by the reading of values -/
def EqO (m dp : Nat) (h h' : AH) : Prop := EqP (fun p k => (p = m + 13 ∨ p = m + 14) ∧ dp ≤ k) h h'
theorem EqO.mv {m dp : Nat} {h h' : AH} (a : EqO m dp h h') (M : MV h m) : MV h' m := EqP.tMV a (by omega) (by omega) (fun _ => by omega) M
theorem EqO.tx {m dp : Nat} {h h' : AH} (a : EqO m dp h h') {T : Tx} {N : Nat} (M : TX h m T N) : TX h' m T N := EqP.tTX a (by omega) (fun _ => by omega) M
theorem EqO.up {m dp : Nat} {h h' : AH} (a : EqO m (dp + 1) h h') : EqO m dp h h' := EqP.mono a (fun p k q => ⟨q.1, by omega⟩)
theorem plen_end {T : Tx} {k : Nat} (h : T k = 0) : plen T k = 0 := by
  rw [plen, if_neg (by rintro (⟨h, _⟩ | ⟨h, _⟩) <;> omega), if_neg (by rintro ⟨⟨h, _⟩, _⟩; omega), if_neg (by omega), if_neg (by omega), if_neg (by omega), ldn, if_neg (by simp [h])]
theorem sum_le {α : Type} (f g : Int × α → Nat) : ∀ ms : List (Int × α), (∀ x ∈ ms, f x ≤ g x) → sumL f ms ≤ sumL g ms
  | [], _ => Nat.le_refl _
  | x :: r, h => by
    have h1 := h x List.mem_cons_self
    have h2 := sum_le f g r (fun y hy => h y (List.mem_cons_of_mem _ hy))
    simp only [sumL]
    omega
theorem sum_app {α : Type} (f : Int × α → Nat) : ∀ a b : List (Int × α), sumL f (a ++ b) = sumL f a + sumL f b
  | [], b => by simp [sumL]
  | x :: r, b => by simp only [List.cons_append, sumL, sum_app f r b]; omega
theorem cnt_le : ∀ (d : Nat) (v : VT d), WF d v → cnt d v ≤ len d v
  | 0, t, h => by have := (PT_len h).1; simp only [cnt, len]; omega
  | d + 1, .inl t, h => by have := (PT_len h).1; simp only [cnt, len]; omega
  | d + 1, .inr (b, ms), h => by
    have h1 := sum_le (fun x => cnt d x.2) (fun x => mw b (len d x.2) + 1) ms (fun x hx => by
      have := cnt_le d x.2 (h.1 x hx).1
      simp only [mw]
      split <;> omega)
    cases ms with
    | nil => simp [cnt, len, sumL]
    | cons x r =>
      simp only [cnt, len, List.isEmpty_cons, Bool.false_eq_true, if_false]
      omega
abbrev neg1 : AO := .inl (some (vI (-1)))
def VK (l : Launch) (s0 : State) (dd m N : Nat) (T : Tx) (n d : Nat) : Prop := ∀ (h : AH) (dp k : Nat) (st c : Int) (Q : AO → AH → Prop), dp + d = 5 → MV h m → TX h m T N → k ≤ N → (0 ≤ c ∧ c ≤ k) → (st = 0 ∨ st = 2 ∧ T k ≠ 93) →
  (∀ h', EqO m dp h h' → (pV T n d k = none → Q neg1 h') ∧ ∀ v k', pV T n d k = some (v, k') → (isDig (T k') → Q neg1 h') ∧ VW l s0 dd m N dp 1 (c + cnt d v) k' h' Q) → VW l s0 dd m N dp st c k h Q
theorem pM_step {α : Type} {T : Tx} {b : Bool} {f : Nat → Option (α × Nat)} {j : Nat} {acc : List (Int × α)} {k k1 k2 : Nat} {c : Int} {v : α} (h1 : pK T b (acc.map (fun x => x.1)) k = some (c, k1)) (h2 : f k1 = some (v, k2)) :
    pM T b f (j + 1) acc k = if T k2 = 44 then pM T b f j (acc ++ [(c, v)]) (k2 + 1) else if T k2 = clo b then some (acc ++ [(c, v)], k2 + 1) else none := by
  rw [pM, h1]
  simp only [h2]
theorem pM_n1 {α : Type} {T : Tx} {b : Bool} {f : Nat → Option (α × Nat)} {j : Nat} {acc : List (Int × α)} {k : Nat} (h1 : pK T b (acc.map (fun x => x.1)) k = none) : pM T b f (j + 1) acc k = none := by
  rw [pM, h1]
theorem pM_n2 {α : Type} {T : Tx} {b : Bool} {f : Nat → Option (α × Nat)} {j : Nat} {acc : List (Int × α)} {k k1 : Nat} {c : Int} (h1 : pK T b (acc.map (fun x => x.1)) k = some (c, k1)) (h2 : f k1 = none) : pM T b f (j + 1) acc k = none := by
  rw [pM, h1]
  simp only [h2]
theorem vM {l : Launch} {s0 : State} {dd m N : Nat} {T : Tx} {n d : Nat} (hdd : 3 ≤ dd) (IH : VK l s0 dd m N T n d) : ∀ (j : Nat) (h : AH) (dp k : Nat) (st c : Int) (acc : List (Int × VT d)) (b : Bool) (Q : AO → AH → Prop), dp + 1 + d = 5 → MV h m → TX h m T N → k ≤ N → N < k + j → 0 ≤ c → c + sumL (fun x => cnt d x.2) acc ≤ k →
    gI h (m + 13) dp = opn b → rg (gI h (m + 14) dp) → (b = true → KB (gI h (m + 14) dp) (acc.map (fun x => x.1))) → (b = true → st = 4 ∨ st = 3 ∧ T k ≠ 125) → (b = false → st = 0 ∨ st = 2 ∧ T k ≠ 93) →
    (∀ h', EqO m dp h h' → (pM T b (pV T n d) j acc k = none → Q neg1 h') ∧ ∀ ms k', pM T b (pV T n d) j acc k = some (ms, k') → VW l s0 dd m N dp 1 (c + sumL (fun x => cnt d x.2) ms) k' h' Q) →
    VW l s0 dd m N ((dp + 1 : Nat) : Int) st (c + sumL (fun x => cnt d x.2) acc) k h Q := by
  intro j
  induction j with
  | zero => intros; omega
  | succ j ih =>
    intro h dp k st c acc b Q hdp hM hT hk hf hc0 hc ho hr hK hs1 hs2 H
    have cont : ∀ (h1 : AH) (st0 : Int) (c1 : Int) (k1 : Nat), EqO m dp h h1 → pK T b (acc.map (fun x => x.1)) k = some (c1, k1) → k ≤ k1 → k1 ≤ N → gI h1 (m + 13) dp = opn b → rg (gI h1 (m + 14) dp) → (b = true → KB (gI h1 (m + 14) dp) (acc.map (fun x => x.1) ++ [c1])) → (st0 = 0 ∨ st0 = 2 ∧ T k1 ≠ 93) → VW l s0 dd m N ((dp + 1 : Nat) : Int) st0 (c + sumL (fun x => cnt d x.2) acc) k1 h1 Q := by
      intro h1 st0 c1 k1 e1 hpk hk1 hk1N ho1 hr1 hK1 hst
      refine IH h1 (dp + 1) k1 st0 _ Q hdp (e1.mv hM) (e1.tx hT) hk1N (by omega) hst (fun h2 e2 => ?_)
      have e3 : EqO m dp h h2 := EqP.trans e1 e2.up
      have ho2 : gI h2 (m + 13) dp = opn b := by rw [EqP.I e2 (by omega)]; exact ho1
      have hr2 : rg (gI h2 (m + 14) dp) := by rw [EqP.I e2 (by omega)]; exact hr1
      have hK2 : b = true → KB (gI h2 (m + 14) dp) (acc.map (fun x => x.1) ++ [c1]) := fun hb => by rw [EqP.I e2 (by omega)]; exact hK1 hb
      refine ⟨fun hv => (H h2 e3).1 (pM_n2 hpk hv), fun v k2 hv => ?_⟩
      have hle := pV_le hT.2.1 hv
      have hok := pV_ok T n d k1 v k2 hv
      have hcl := cnt_le d v hok.1
      have hpm := pM_step (j := j) hpk hv
      refine ⟨fun hdg => (H h2 e3).1 ?_, ?_⟩
      · rw [hpm, if_neg (by unfold isDig at hdg; omega), if_neg (by unfold isDig at hdg; cases b <;> simp [clo] <;> omega)]
      have ecast : c + (sumL (fun x => cnt d x.2) acc : Nat) + (cnt d v : Nat) = c + (sumL (fun x => cnt d x.2) (acc ++ [(c1, v)]) : Nat) := by
        rw [sum_app]
        simp only [sumL]
        omega
      by_cases q0 : k2 = N
      · subst q0
        refine v_end hT.2.1.1 (by omega) (by omega) (by omega) ?_
        rw [if_neg (by omega)]
        have z := hT.2.1.2.2 k2 (by omega)
        exact (H h2 e3).1 (by rw [hpm, if_neg (by omega), if_neg (by rw [z]; exact (clo_pos b).symm)])
      by_cases q1 : T k2 = 44
      · refine v_comma (by omega) (e3.mv hM) (e3.tx hT) q1 (by omega) (by omega) (b := b) (by rw [Nat.add_sub_cancel]; exact ho2) ?_
        rw [ecast]
        rw [if_pos q1] at hpm
        refine ih h2 dp (k2 + 1) _ c _ b Q hdp (e3.mv hM) (e3.tx hT) (by omega) (by omega) hc0 (by omega) ho2 hr2 (fun hb => by rw [List.map_append]; exact hK2 hb) (fun hb => by simp [hb]) (fun hb => by simp [hb]) (fun h3 e4 => ?_)
        have := H h3 (EqP.trans e3 e4)
        rw [hpm] at this
        exact this
      rw [if_neg q1] at hpm
      by_cases q2 : T k2 = clo b
      · refine v_close (by omega) (e3.mv hM) (e3.tx hT) q2 (Or.inl rfl) (by omega) (by omega) (fun _ => by rw [Nat.add_sub_cancel, ho2]; cases b <;> exact rg_lit rfl) ?_
        rw [if_pos ⟨by omega, by rw [Nat.add_sub_cancel]; exact ho2⟩]
        rw [if_pos q2] at hpm
        rw [ecast]
        exact (H h2 e3).2 _ _ hpm
      rw [if_neg q2] at hpm
      by_cases q3 : T k2 = clo (!b)
      · refine v_close (by omega) (e3.mv hM) (e3.tx hT) q3 (Or.inl rfl) (by omega) (by omega) (fun _ => by rw [Nat.add_sub_cancel, ho2]; cases b <;> exact rg_lit rfl) ?_
        rw [if_neg (fun z => by rw [Nat.add_sub_cancel, ho2] at z; cases b <;> simp [opn] at z)]
        exact (H h2 e3).1 hpm
      · refine v_bad (by omega) (e3.mv hM) (e3.tx hT) ⟨q1, ?_, ?_⟩ (by omega) (by omega) (by omega) ((H h2 e3).1 hpm)
        · intro z; cases b <;> simp [clo] at q2 q3 <;> omega
        · intro z; cases b <;> simp [clo] at q2 q3 <;> omega
    cases b with
    | false =>
      exact cont h st 0 k EqP.rfl (by simp [pK]) (Nat.le_refl _) hk ho hr (fun z => by simp at z) (hs2 rfl)
    | true =>
      by_cases q0 : k = N
      · subst q0
        refine v_end hT.2.1.1 (by omega) (by have := hs1 rfl; omega) (by omega) ?_
        rw [if_neg (by omega)]
        have z := hT.2.1.2.2 k (by omega)
        exact (H h EqP.rfl).1 (pM_n1 (by simp [pK, z]))
      · refine v_key (by omega) hM hT (hs1 rfl) (by omega) (by omega) (by omega) (ks := acc.map (fun x => x.1)) (by rw [Nat.add_sub_cancel]; exact hK rfl) (by rw [Nat.add_sub_cancel]; exact hr) (fun z => (H h EqP.rfl).1 (pM_n1 z)) (fun K hp hrK hKK => ?_)
        rw [Nat.add_sub_cancel]
        have h4 := hT.2.1.lt (k := k + 3) (by
          unfold pK at hp
          simp only [if_true] at hp
          split at hp
          · next z => omega
          · simp at hp)
        have g1 : gI (sI h (m + 14) dp K) (m + 14) dp = K := by rw [gI_sI]; simp
        have g2 : gI (sI h (m + 14) dp K) (m + 13) dp = gI h (m + 13) dp := by rw [gI_sI, if_neg (by omega)]
        exact cont _ 0 _ _ (EqP.sI ⟨Or.inr rfl, Nat.le_refl _⟩) hp (by omega) (by omega) (by rw [g2]; exact ho) (by rw [g1]; exact hrK) (fun _ => by rw [g1]; exact hKK) (Or.inl rfl)
