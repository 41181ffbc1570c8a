/-! the pure side: states that are right -/
def WRu (R : RU) : Prop := R.1.length ≤ 5 ∧ (∀ s ∈ R.1, SV s) ∧ R.2.2 ≠ [] ∧ ∀ t ∈ R.2.2, MT t
def WI (x : IA) : Prop := (∀ v, x.2.1 = some v → WF 5 v ∧ len 5 v ≤ 100) ∧ x.2.2.1.length ≤ 8 ∧ (∀ R ∈ x.2.2.1, WRu R) ∧ x.2.2.2.length ≤ 3 ∧ ∀ s ∈ x.2.2.2, 0 ≤ s ∧ s ≤ 5
def WM (x : MM) : Prop := 1 ≤ x.1 ∧ x.1 ≤ 5 ∧ x.2.length ≤ 5 ∧ ∀ s ∈ x.2, PV s
def WS (S : AS) : Prop := TT S.1.1 S.1.2 ∧ S.2.1.length ≤ 4 ∧ (∀ x ∈ S.2.1, WI x) ∧ (∀ s, s < 6 → 0 ≤ S.2.2.1 s ∧ S.2.2.1 s ≤ 3) ∧ (∀ e ∈ S.2.2.2.1, 0 ≤ e ∧ e ≤ 60) ∧ S.2.2.2.2.length ≤ 30 ∧ ∀ x ∈ S.2.2.2.2, WM x
theorem TT_0 : TT T0 0 := ⟨by omega, fun k hk => by omega, fun k _ => rfl⟩
theorem slay_SV {A : Tx} : ∀ (ss : List Int) (q c : Nat), SLay A q ss c → ∀ s ∈ ss, SV s
  | [], _, _, _, s, hs => by simp at hs
  | x :: r, q, c, h, s, hs => by
    rcases List.mem_cons.mp hs with rfl | hs
    · exact h.1
    · exact slay_SV r _ c h.2.2 s hs
theorem mlay_MT {A : Tx} {sep : Int} : ∀ (ts : List (List Int)) (q e : Nat), MLay A sep q ts e → ts ≠ [] ∧ ∀ t ∈ ts, MT t
  | [], q, e, h => h.elim
  | t :: r, q, e, h => by
    refine ⟨by simp, fun x hx => ?_⟩
    obtain ⟨h1, h2, h3⟩ := h
    rcases List.mem_cons.mp hx with rfl | hx
    · exact h1
    · cases r with
      | nil => simp at hx
      | cons t' r' =>
        simp only [List.isEmpty_cons, Bool.false_eq_true, if_false] at h3
        exact (mlay_MT (t' :: r') _ e h3.2).2 x hx
theorem rlay_WRu {A : Tx} {p e : Nat} {R : RU} (h : RLay A p R e) : WRu R := by
  obtain ⟨_, h2, c, h3, _, h5⟩ := h
  exact ⟨h2, slay_SV _ _ _ h3, (mlay_MT _ _ _ h5).1, (mlay_MT _ _ _ h5).2⟩
theorem pW_ok {T : Tx} {N : Nat} {v : VT 5} (h : pW T N = some v) : WF 5 v ∧ Lay T 5 0 v ∧ len 5 v = N := by
  unfold pW at h
  split at h
  · simp at h
  · next v' k hv =>
    split at h
    · next hk =>
      simp only [Option.some.injEq] at h
      subst h
      have := pV_ok T (N + 1) 5 0 v' k hv
      exact ⟨this.1, this.2.1, by omega⟩
    · simp at h
theorem badK_rg (rs : List RU) (pl : List Int) : badK rs pl = 1 ∨ badK rs pl = 5 := by unfold badK; split <;> simp
theorem cmp_WM {rs : List RU} {st : Bool} : ∀ (d : Nat) (pl : List Int) (e a : VT d), WF d e → WF d a → len d a ≤ 100 → pl.length + d ≤ 5 → (∀ s ∈ pl, PV s) → ∀ x ∈ cmp rs st d pl e a, WM x
  | 0, pl, e, a, he, ha, la, hl, hp, x, hx => by
    have hb := badK_rg rs pl
    rw [cmp] at hx
    by_cases g : good 0 rs pl e a
    · rw [iteP_pos g] at hx; simp at hx
    · rw [iteP_neg g, List.mem_singleton] at hx
      subst hx
      exact ⟨by simp only; omega, by simp only; omega, by simp only; omega, hp⟩
  | d + 1, pl, e, a, he, ha, la, hl, hp, x, hx => by
    have hb := badK_rg rs pl
    rw [cmp] at hx
    by_cases g : good (d + 1) rs pl e a
    · rw [iteP_pos g] at hx
      rcases List.mem_append.mp hx with hx | hx
      · unfold own at hx
        split at hx
        · split at hx
          · rw [List.mem_singleton] at hx
            subst hx
            exact ⟨by simp, by simp, by simp only; omega, hp⟩
          · simp at hx
        · simp at hx
      · obtain ⟨j, hj, hx⟩ := List.mem_flatMap.mp hx
        obtain ⟨k1, k2⟩ := kids_mem he ha la hj
        have hp2 : ∀ s ∈ pl ++ [j.2.1], PV s := fun s hs => by
          rcases List.mem_append.mp hs with hs | hs
          · exact hp s hs
          · rw [List.mem_singleton] at hs; rw [hs]; exact k1
        have hl2 : (pl ++ [j.2.1]).length + d ≤ 5 := by simp; omega
        unfold jmm at hx
        rcases k2 with ⟨k2, k3⟩ | ⟨k2, u, v, k3, k4, k5, k6, k7, k8⟩
        · rw [k3] at hx
          simp only [List.mem_singleton] at hx
          subst hx
          exact ⟨by simp only; omega, by simp only; omega, by simp only; omega, hp2⟩
        · rw [k3] at hx
          exact cmp_WM d _ u v k4 k5 (by omega) hl2 hp2 x hx
    · rw [iteP_neg g, List.mem_singleton] at hx
      subst hx
      exact ⟨by simp only; omega, by simp only; omega, by simp only; omega, hp⟩
theorem atI_some {is : List IA} {k : Int} {x : IA} (h : atI is k = some x) : 0 ≤ k ∧ k < (is.length : Int) ∧ is[k.toNat]? = some x := by
  unfold atI at h
  split at h
  · next h1 =>
    have := (List.getElem?_eq_some_iff.mp h).1
    exact ⟨h1, by omega, h⟩
  · simp at h
theorem atI_none {is : List IA} {k : Int} : atI is k = none ↔ ¬ (0 ≤ k ∧ k < (is.length : Int)) := by
  unfold atI
  split
  · next h1 =>
    rw [List.getElem?_eq_none_iff]
    omega
  · simp; omega
theorem ws_set {S : AS} {n : Nat} {x : IA} (h : WS S) (hx : WI x) : ∀ y ∈ S.2.1.set n x, WI y := fun y hy => by
  rcases List.mem_or_eq_of_mem_set hy with hy | hy
  · exact h.2.2.1 y hy
  · rw [hy]; exact hx
theorem ws_clr {S : AS} (h : WS S) : WS (clr S) := ⟨TT_0, h.2⟩
theorem ws_body {S : AS} (h : WS S) (k : Int) : WS (opBody S k).1 := by
  unfold opBody
  split
  · next x v h1 h2 =>
    have hv := pW_ok h2
    have hN := h.1.1
    obtain ⟨a1, a2, a3⟩ := atI_some h1
    have hx := h.2.2.1 x (List.mem_of_getElem? a3)
    split
    · next b hb =>
      by_cases g : Sam 5 b v
      · rw [iteP_pos g]; exact ws_clr h
      · rw [iteP_neg g]; exact ws_clr h
    · refine ⟨TT_0, by simp only [List.length_set]; exact h.2.1, ws_set h ⟨fun w hw => ?_, hx.2⟩, h.2.2.2⟩
      simp only [Option.some.injEq] at hw
      subst hw
      exact ⟨hv.1, by omega⟩
  · exact ws_clr h
theorem ws_rule {S : AS} (h : WS S) (k : Int) : WS (opRule S k).1 := by
  unfold opRule
  split
  · next x R h1 h2 =>
    have hR := rlay_WRu (pR_ok h.1 h2)
    obtain ⟨a1, a2, a3⟩ := atI_some h1
    have hx := h.2.2.1 x (List.mem_of_getElem? a3)
    split
    · exact ws_clr h
    · refine ⟨TT_0, by simp only [List.length_set]; exact h.2.1, ws_set h ⟨hx.1, ?_, fun r hr => ?_, hx.2.2.2⟩, h.2.2.2⟩
      · have := hx.2.1
        simp only [List.length_append, List.length_cons, List.length_nil]
        omega
      · rcases List.mem_append.mp hr with hr | hr
        · exact hx.2.2.1 r hr
        · rw [List.mem_singleton] at hr; rw [hr]; exact hR
  · exact ws_clr h
theorem ws_make {S : AS} (h : WS S) (b : Bool) : WS (opMake S b).1 := by
  unfold opMake
  split
  · exact h
  · refine ⟨h.1, ?_, fun x hx => ?_, h.2.2.2⟩
    · have := h.2.1
      simp only [List.length_append, List.length_cons, List.length_nil]
      omega
    · rcases List.mem_append.mp hx with hx | hx
      · exact h.2.2.1 x hx
      · rw [List.mem_singleton] at hx; rw [hx]
        exact ⟨fun v hv => by simp at hv, by simp, by simp, by simp, by simp⟩
theorem ws_needs {S : AS} (h : WS S) (k s : Int) : WS (opNeeds S k s).1 := by
  unfold opNeeds
  split
  · next x h1 =>
    obtain ⟨a1, a2, a3⟩ := atI_some h1
    have hx := h.2.2.1 x (List.mem_of_getElem? a3)
    split
    · next g =>
      refine ⟨h.1, by simp only [List.length_set]; exact h.2.1, ws_set h ⟨hx.1, hx.2.1, hx.2.2.1, ?_, fun r hr => ?_⟩, h.2.2.2⟩
      · have := hx.2.2.2.1
        have := g.2.2.1
        simp only [List.length_append, List.length_cons, List.length_nil]
        omega
      · rcases List.mem_append.mp hr with hr | hr
        · exact hx.2.2.2.2 r hr
        · rw [List.mem_singleton] at hr; rw [hr]; exact ⟨g.1, g.2.1⟩
    · exact h
  · exact h
theorem ws_handler {S : AS} (h : WS S) (s f : Int) : WS (opHandler S s f).1 := by
  unfold opHandler
  split
  · next g =>
    refine ⟨h.1, h.2.1, h.2.2.1, fun j hj => ?_, h.2.2.2.2⟩
    simp only
    split
    · omega
    · exact h.2.2.2.1 j hj
  · exact h
theorem upE_rg {hs : Nat → Int} : ∀ (r : List Int), (∀ s ∈ r, 0 ≤ s ∧ s ≤ 5) → (∀ e ∈ (upE hs r).1, 0 ≤ e ∧ e ≤ 60) ∧ (∀ s ∈ (upE hs r).2.1, 0 ≤ s ∧ s ≤ 5) ∧ (upE hs r).1.length ≤ r.length ∧ (upE hs r).2.1.length ≤ r.length
  | [], _ => by simp [upE]
  | s :: r, h => by
    have ih := upE_rg (hs := hs) r (fun x hx => h x (List.mem_cons_of_mem _ hx))
    have hs := h s List.mem_cons_self
    unfold upE
    split
    · simp only [List.mem_singleton, forall_eq, List.not_mem_nil, List.length_cons, List.length_nil]
      exact ⟨by omega, by simp, by omega, by omega⟩
    · simp only [List.mem_cons, forall_eq_or_imp, List.length_cons]
      exact ⟨⟨by omega, ih.1⟩, ⟨hs, ih.2.1⟩, by omega, by omega⟩
theorem ws_verify {S : AS} (h : WS S) (k : Int) : WS (opVerify S k).1 := by
  unfold opVerify
  split
  · next x v h1 h2 =>
    have hv := pW_ok h2
    have hN := h.1.1
    obtain ⟨a1, a2, a3⟩ := atI_some h1
    have hx := h.2.2.1 x (List.mem_of_getElem? a3)
    split
    · exact ws_clr h
    · next b hb =>
      have hu := upE_rg (hs := S.2.2.1) x.2.2.2 hx.2.2.2.2
      refine ⟨TT_0, h.2.1, h.2.2.1, h.2.2.2.1, fun e he => ?_, ?_⟩
      · simp only at he
        rcases List.mem_append.mp he with he | he
        · rcases List.mem_append.mp he with he | he
          · exact h.2.2.2.2.1 e he
          · exact hu.1 e he
        · obtain ⟨s, hs, rfl⟩ := List.mem_map.mp he
          have := hu.2.1 s (List.mem_reverse.mp hs)
          unfold tdE
          split <;> omega
      · simp only
        split
        · exact h.2.2.2.2.2
        · refine ⟨by simp; omega, fun y hy => ?_⟩
          exact cmp_WM 5 [] b v (hx.1 b hb).1 hv.1 (by omega) (by simp) (by simp) y (List.mem_of_mem_take hy)
  · exact ws_clr h
theorem ws_select {S : AS} (h : WS S) (k : Int) : WS (opSelect S k).1 := ws_clr h
theorem TT_add {T : Tx} {N : Nat} (h : TT T N) {cs : List Int} (hc : ∀ c ∈ cs, 32 ≤ c ∧ c ≤ 126) (hl : N + cs.length ≤ 100) : TT (addT T N cs) (N + cs.length) := by
  refine ⟨hl, fun k hk => ?_, fun k hk => ?_⟩
  · unfold addT
    split
    · next h1 => exact h.2.1 k h1
    · exact hc _ (getD_mem (by omega))
  · unfold addT
    rw [if_neg (by omega)]
    simp [List.getD_eq_getElem?_getD, List.getElem?_eq_none (show cs.length ≤ k - N by omega)]
theorem ws_write {S : AS} (h : WS S) (w : Int) : WS (opWrite S w).1 := by
  unfold opWrite
  split
  · next g => exact ⟨TT_add h.1 g.1 g.2, h.2⟩
  · exact h
theorem cnt_len : ∀ (d : Nat) (v : VT d), WF d v → cnt d v ≤ len d v
  | 0, t, h => (PT_len h).1
  | d + 1, .inl t, h => (PT_len h).1
  | d + 1, .inr (b, ms), h => by
    rw [len_gr]
    simp only [cnt]
    have hs : ∀ r : List (Int × VT d), (∀ x ∈ r, WF d x.2) → sumL (fun x => cnt d x.2) r ≤ sumL (fun x => mw b (len d x.2) + 1) r := by
      intro r
      induction r with
      | nil => intro _; simp [sumL]
      | cons x r ih =>
        intro hr
        have := ih (fun y hy => hr y (List.mem_cons_of_mem _ hy))
        have h1 := cnt_len d x.2 (hr x List.mem_cons_self)
        have h2 := (mw_len b (len d x.2)).1
        simp only [sumL]
        omega
    have := hs ms (fun x hx => (h.1 x hx).1)
    split
    · next e => subst e; simp [sumL]
    · omega
