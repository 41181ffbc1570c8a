/-! the reference: a new one -/
def st1 (h : AH) (m t n k : Nat) : AH := sR (nw h t n) m k (hN h + 1)
/-- so many arrays have been made -/
def PN (h0 h : AH) (m j u : Nat) : Prop := gT h m = (2, 35) ∧ hN h = m + j ∧ hU h = hU h0 + u ∧ (∀ i, i < j → gT h (m + (i + 1)) = mTag.getD i (0, 0)) ∧ (∀ q ∈ mRef.take j, gR h m q.1 = m + q.2) ∧ (∀ i k, m ≤ i → i ≤ m + j → gI h i k = 0) ∧ (∀ p, p < m → gT h p = gT h0 p ∧ ∀ k, gI h p k = gI h0 p k ∧ gR h p k = gR h0 p k)
theorem pn_step {h0 h : AH} {m j u t n k : Nat} (H : PN h0 h m j u) (ht : mTag.getD j (0, 0) = (t, n)) (hk : mRef.take (j + 1) = mRef.take j ++ [(k, j + 1)]) (hn : ∀ q ∈ mRef.take j, q.1 ≠ k) : PN h0 (st1 h m t n k) m (j + 1) (u + n) := by
  obtain ⟨h1, h2, h3, h4, h5, h6, h7⟩ := H
  unfold st1
  refine ⟨by rw [gT_sR, gT_nw, if_neg (by omega)]; exact h1, by rw [hN_sR, hN_nw]; omega, by rw [hU_sR, hU_nw]; omega, fun i hi => ?_, fun q hq => ?_, fun i k' h8 h9 => ?_, fun p hp => ⟨?_, fun k' => ⟨?_, ?_⟩⟩⟩
  · rw [gT_sR, gT_nw]
    by_cases e : i = j
    · rw [if_pos (by omega), e, ht]
    · rw [if_neg (by omega)]; exact h4 i (by omega)
  · rw [hk] at hq
    rw [gR_sR]
    rcases List.mem_append.mp hq with hq | hq
    · rw [if_neg (fun z => hn q hq z.2), gR_nw, if_neg (by omega)]; exact h5 q hq
    · rw [List.mem_singleton] at hq
      rw [hq, if_pos ⟨rfl, rfl⟩, h2]
      rfl
  · rw [gI_sR, gI_nw]
    by_cases e : i = hN h + 1
    · rw [if_pos e]
    · rw [if_neg e]; exact h6 i k' h8 (by omega)
  · rw [gT_sR, gT_nw, if_neg (by omega)]; exact (h7 p hp).1
  · rw [gI_sR, gI_nw, if_neg (by omega)]; exact ((h7 p hp).2 k').1
  · rw [gR_sR, if_neg (fun z => by omega), gR_nw, if_neg (by omega)]; exact ((h7 p hp).2 k').2
theorem na_step {l : Launch} {s0 : State} {d : Nat} {Q : AO → AH → Prop} {J : Nat → XL → XS → AH → Prop} {K : XL → XS → AH → Prop} {rest : Tr} {h0 h : AH} {m j u t n k : Nat} (H : PN h0 h m j u) (hl : lim s0 h n) (hn : n ≤ 100000) (hk : rest l s0 d Q J [some (vR m)] [] (st1 h m t n k) K) : sq (i_ldR 0) (sq (i_ic (n : Int)) (sq (i_na t) (sq (i_pR k [2]) rest))) l s0 d Q J [some (vR m)] [] h K := by
  have e0 : ((n : Nat) : Int).toNat = n := by omega
  have e1 : gT (nw h t n) m = (2, 35) := by rw [gT_nw, if_neg (by have := H.2.1; omega)]; exact H.1
  simp only [sq, i_ldR, i_ic, i_na, i_pR, lk, e0, e1, List.elem_cons, List.elem_nil]
  exact ⟨by omega, hl, by decide, hk⟩
/-- what stands at the start -/
def S0 : AS := ((T0, 0), [], (fun _ => 0), [], [])
theorem ws_0 : WS S0 := ⟨TT_0, by simp [S0], by simp [S0], fun s _ => by simp [S0], by simp [S0], by simp [S0], by simp [S0]⟩
theorem pn_mr {h0 h : AH} {m u : Nat} (H : PN h0 h m 27 u) : MR h m S0 := by
  obtain ⟨h1, h2, h3, h4, h5, h6, h7⟩ := H
  have z : ∀ i k, i ≤ 27 → gI h (m + i) k = 0 := fun i k hi => h6 (m + i) k (by omega) (by omega)
  have z0 : ∀ k, gI h m k = 0 := fun k => z 0 k (by omega)
  have hMS : MS h m := ⟨h1, h4, fun q hq => h5 q (by rw [List.take_of_length_le (by decide)]; exact hq)⟩
  refine ⟨⟨hMS, by rw [z0]; omega, by rw [z0]; omega, fun i => by rw [z 1 i (by omega)]; omega⟩, ⟨z0 2, TT_0, fun k hk => absurd hk (Nat.not_lt_zero k)⟩, z0 3, fun i x hx => by simp [S0] at hx, fun i _ _ => ⟨z 3 i (by omega), z 4 i (by omega), z 6 i (by omega)⟩, fun s _ => z 8 s (by omega), ⟨z0 11, fun k e he => by simp [S0] at he⟩, ⟨z0 13, by simp [S0], fun k x hx => by simp [S0] at hx⟩, by rw [z0]; unfold rg; omega⟩
theorem m_new {l : Launch} {s0 : State} {d : Nat} {h : AH} {m : Nat} (hd : 1 ≤ d) (hT : gT h m = (2, 35)) (hm : hN h = m) (h0 : 0 < m) (hz : ∀ k, gI h m k = 0) (hr : Rm s0 h 12000) : MP l s0 128 d [vR m] h (fun o h' => o = .inl none ∧ MR h' m S0 ∧ Fr (fun p _ => p = m) 12000 h h') := by
  have P0 : PN h h m 0 0 := ⟨hT, by omega, by omega, fun i hi => by omega, fun q hq => by simp at hq, fun i k h1 h2 => by rw [show i = m by omega]; exact hz k, fun p hp => ⟨rfl, fun k => ⟨rfl, rfl⟩⟩⟩
  have r1 := hr.1
  have r2 := hr.2
  have hl : ∀ (g : AH) (j u n : Nat), PN h g m j u → j ≤ 27 → u + n ≤ 12000 → lim s0 g n := fun g j u n P h1 h2 => by
    have p1 := P.2.1
    have p2 := P.2.2.1
    exact ⟨by omega, by omega⟩
  have P1 := pn_step (t := 21) (n := 3712) (k := 1) P0 (by decide) (by decide) (by decide)
  have P2 := pn_step (t := 22) (n := 4) (k := 4) P1 (by decide) (by decide) (by decide)
  have P3 := pn_step (t := 20) (n := 4) (k := 5) P2 (by decide) (by decide) (by decide)
  have P4 := pn_step (t := 20) (n := 4) (k := 6) P3 (by decide) (by decide) (by decide)
  have P5 := pn_step (t := 20) (n := 32) (k := 7) P4 (by decide) (by decide) (by decide)
  have P6 := pn_step (t := 20) (n := 4) (k := 8) P5 (by decide) (by decide) (by decide)
  have P7 := pn_step (t := 20) (n := 12) (k := 9) P6 (by decide) (by decide) (by decide)
  have P8 := pn_step (t := 20) (n := 6) (k := 10) P7 (by decide) (by decide) (by decide)
  have P9 := pn_step (t := 20) (n := 3100) (k := 12) P8 (by decide) (by decide) (by decide)
  have P10 := pn_step (t := 20) (n := 30) (k := 14) P9 (by decide) (by decide) (by decide)
  have P11 := pn_step (t := 20) (n := 30) (k := 15) P10 (by decide) (by decide) (by decide)
  have P12 := pn_step (t := 21) (n := 720) (k := 16) P11 (by decide) (by decide) (by decide)
  have P13 := pn_step (t := 21) (n := 6) (k := 17) P12 (by decide) (by decide) (by decide)
  have P14 := pn_step (t := 20) (n := 6) (k := 18) P13 (by decide) (by decide) (by decide)
  have P15 := pn_step (t := 20) (n := 768) (k := 20) P14 (by decide) (by decide) (by decide)
  have P16 := pn_step (t := 20) (n := 768) (k := 21) P15 (by decide) (by decide) (by decide)
  have P17 := pn_step (t := 20) (n := 256) (k := 23) P16 (by decide) (by decide) (by decide)
  have P18 := pn_step (t := 20) (n := 256) (k := 24) P17 (by decide) (by decide) (by decide)
  have P19 := pn_step (t := 20) (n := 256) (k := 25) P18 (by decide) (by decide) (by decide)
  have P20 := pn_step (t := 20) (n := 256) (k := 26) P19 (by decide) (by decide) (by decide)
  have P21 := pn_step (t := 20) (n := 64) (k := 28) P20 (by decide) (by decide) (by decide)
  have P22 := pn_step (t := 22) (n := 9) (k := 29) P21 (by decide) (by decide) (by decide)
  have P23 := pn_step (t := 22) (n := 9) (k := 30) P22 (by decide) (by decide) (by decide)
  have P24 := pn_step (t := 21) (n := 8) (k := 31) P23 (by decide) (by decide) (by decide)
  have P25 := pn_step (t := 21) (n := 8) (k := 32) P24 (by decide) (by decide) (by decide)
  have P26 := pn_step (t := 20) (n := 128) (k := 33) P25 (by decide) (by decide) (by decide)
  have P27 := pn_step (t := 20) (n := 128) (k := 34) P26 (by decide) (by decide) (by decide)
  refine MP.of 1 ml_128 pn_128 (Nat.le_of_ble_eq_true rfl) ?_
  refine WP.run sb_128_0 ?_
  unfold bk_128_0
  refine ⟨⟨by omega, by simp, by omega, rfl⟩, ?_⟩
  refine na_step (n := 3712) P0 (hl _ _ _ 3712 P0 (by omega) (by omega)) (by omega) ?_
  refine na_step (n := 4) P1 (hl _ _ _ 4 P1 (by omega) (by omega)) (by omega) ?_
  refine na_step (n := 4) P2 (hl _ _ _ 4 P2 (by omega) (by omega)) (by omega) ?_
  refine na_step (n := 4) P3 (hl _ _ _ 4 P3 (by omega) (by omega)) (by omega) ?_
  refine na_step (n := 32) P4 (hl _ _ _ 32 P4 (by omega) (by omega)) (by omega) ?_
  refine na_step (n := 4) P5 (hl _ _ _ 4 P5 (by omega) (by omega)) (by omega) ?_
  refine na_step (n := 12) P6 (hl _ _ _ 12 P6 (by omega) (by omega)) (by omega) ?_
  refine na_step (n := 6) P7 (hl _ _ _ 6 P7 (by omega) (by omega)) (by omega) ?_
  refine na_step (n := 3100) P8 (hl _ _ _ 3100 P8 (by omega) (by omega)) (by omega) ?_
  refine na_step (n := 30) P9 (hl _ _ _ 30 P9 (by omega) (by omega)) (by omega) ?_
  refine na_step (n := 30) P10 (hl _ _ _ 30 P10 (by omega) (by omega)) (by omega) ?_
  refine na_step (n := 720) P11 (hl _ _ _ 720 P11 (by omega) (by omega)) (by omega) ?_
  refine na_step (n := 6) P12 (hl _ _ _ 6 P12 (by omega) (by omega)) (by omega) ?_
  refine na_step (n := 6) P13 (hl _ _ _ 6 P13 (by omega) (by omega)) (by omega) ?_
  refine na_step (n := 768) P14 (hl _ _ _ 768 P14 (by omega) (by omega)) (by omega) ?_
  refine na_step (n := 768) P15 (hl _ _ _ 768 P15 (by omega) (by omega)) (by omega) ?_
  refine na_step (n := 256) P16 (hl _ _ _ 256 P16 (by omega) (by omega)) (by omega) ?_
  refine na_step (n := 256) P17 (hl _ _ _ 256 P17 (by omega) (by omega)) (by omega) ?_
  refine na_step (n := 256) P18 (hl _ _ _ 256 P18 (by omega) (by omega)) (by omega) ?_
  refine na_step (n := 256) P19 (hl _ _ _ 256 P19 (by omega) (by omega)) (by omega) ?_
  refine na_step (n := 64) P20 (hl _ _ _ 64 P20 (by omega) (by omega)) (by omega) ?_
  refine na_step (n := 9) P21 (hl _ _ _ 9 P21 (by omega) (by omega)) (by omega) ?_
  refine na_step (n := 9) P22 (hl _ _ _ 9 P22 (by omega) (by omega)) (by omega) ?_
  refine na_step (n := 8) P23 (hl _ _ _ 8 P23 (by omega) (by omega)) (by omega) ?_
  refine na_step (n := 8) P24 (hl _ _ _ 8 P24 (by omega) (by omega)) (by omega) ?_
  refine na_step (n := 128) P25 (hl _ _ _ 128 P25 (by omega) (by omega)) (by omega) ?_
  refine na_step (n := 128) P26 (hl _ _ _ 128 P26 (by omega) (by omega)) (by omega) ?_
  refine ⟨rfl, pn_mr P27, ?_⟩
  have p1 := P27.2.1
  have p2 := P27.2.2.1
  refine ⟨by omega, by omega, by omega, by omega, fun p hp => ?_, fun p k hp hw => ?_⟩
  · by_cases e : p = m
    · rw [e, P27.1, hT]
    · exact (P27.2.2.2.2.2.2 p (by omega)).1
  · exact (P27.2.2.2.2.2.2 p (by omega)).2 k
