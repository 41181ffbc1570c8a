/-! a private method of an abstract superclass, on an object of a class of ours; a place that is never reached -/
def i_bad : Tr := fun _ _ _ _ _ _ _ _ _ => False
theorem sd_bad {i pc : Nat} : Sd i pc 0 i_bad := by
  intro l s0 d Q J K ls st h hk hJ hK
  exact hk.elim
theorem sd_virtP {i pc ix n ml j t : Nat} {hs : List (Nat × List Nat × List Nat)} (hd : decode (mi i).2.1 pc = .ok (.invokevirtual ix, 3)) (hl : Cond.methodLink (mi i).1.cls ix (mi j).1 ∈ lw_tbl) (hpv : Cond.privateMethod (mi j).1 ∈ lw_tbl) (hin : Cond.instanceMethod (mi j).1 ∈ lw_tbl) (hsame : Cond.sameMethod (mi j).1.cls (mi j).1.cls (mi j).1.name (mi j).1.desc ∈ lw_tbl) (hm : mtOk j) (hA : isA t = false) (ht0 : t ≠ 0) (hp : prm (mi j).1 n) (hml : (mi i).2.2.1 = ml) (hh : HsOk i pc hs) : Sd i pc 3 (i_cV [(t, j)] (n + 1) ml hs) := by
  intro l s0 d Q J K ls st h hk hJ hK p e s m args below meth c R H locs cls C A
  unfold i_cV at hk
  split at hk
  · next q as rest he =>
    obtain ⟨⟨hr, hd0, hlen⟩, hM⟩ := hk
    split at hM
    · next j' hlk =>
      obtain ⟨b, b1, b2, b3⟩ := tkr_ok (n + 1) st [] _ rest he
      rw [List.append_nil] at b1
      subst b1
      subst b2
      have b4 : as.length = n := by simpa using b3
      have hmem := look_mem _ _ _ hlk
      simp only [List.mem_cons, List.not_mem_nil, or_false, Prod.mk.injEq] at hmem
      obtain ⟨ht1, rfl⟩ := hmem
      obtain ⟨m1, m2, m3, m4⟩ := hm
      obtain ⟨a, hqa, cellB, hcB, hoB, hclB⟩ := obj_at C.al A.1 (by rw [ht1]; exact hA) (by rw [ht1]; exact ht0)
      subst hqa
      intro T hT X
      obtain ⟨mk, methM, hnamed, hmethM, hstM, habM⟩ := Cond.instanceMethod_spec (C.wd.use hin rfl rfl args)
      obtain ⟨methM', cM, hmethM', -, -, -, -, -, -, hsigM⟩ := cd_spec hnamed (C.wd.use m1 (cd_tab j').2 (cd_tab j').1 args)
      cases hmethM.symm.trans hmethM'
      obtain ⟨cn, ck, r1, hcn, hck, hni, hf, hn1⟩ := Cond.sameMethod_found (C.wd.use hsame rfl rfl args)
      have hcm : cn = mk.cls := Option.some.inj (hcn.symm.trans (findClass_of_methodNamed hnamed))
      subst hcm
      have hselP : selectMethod e.platform s.vm cellB.cls mk = .method mk := selectMethod_private hmethM (Cond.privateMethod_at (C.wd.use hpv rfl rfl args) mk methM hnamed hmethM)
      obtain ⟨vm₁, X₁, hstep₁⟩ := X.invokevirtual C.exec C.own (C.wd.use hl rfl rfl args) hnamed hmethM hstM hck hni m4 (a := a) (cell := cellB) (by rw [hT]; exact hcB)
        (fun z h => by rw [h] at hoB; cases hoB) hselP hmethM habM hck hni (g := F0 m pc cls (((vR (a + 1) :: as).reverse ++ rest).map cv)) rfl (argsL := as.map cv) (rest := rest.map cv) (prm_at hp (by simp [b4]) _ hsigM) (by simp [cv, cR]) (by rw [C.code]; exact hd)
      refine call_fin C A hT X₁ (by rw [A.lo.1, hlen, C.maxL, hml]) hd hnamed m1 m2 m3 hM (by omega) hr (fun target h9 => hstep₁ _ (fun acts => by rw [doInvoke_state]; exact h9)) ?_ ?_
      · intro v h' hq
        cases v with
        | none => exact hK _ _ _ hq
        | some v => exact hK _ _ _ hq
      · intro q h' hq
        exact hh l s0 d Q J ls rest h' q hq hJ
    · exact hM.elim
  · exact hk.elim
/-! Math.max, Math.min -/
def i_max (ml : Nat) : Tr := fun _ _ d _ _ ls st h K => match st with
  | .inl b :: .inl a :: r => (rg a ∧ rg b ∧ r.length ≤ 8 ∧ 0 < d ∧ ls.length = ml) ∧ K ls (vI (max a b) :: r) h
  | _ => False
def i_min (ml : Nat) : Tr := fun _ _ d _ _ ls st h K => match st with
  | .inl b :: .inl a :: r => (rg a ∧ rg b ∧ r.length ≤ 8 ∧ 0 < d ∧ ls.length = ml) ∧ K ls (vI (min a b) :: r) h
  | _ => False
theorem tl_mth : Cond.static Lib.Math.max.name ∈ lw_tbl ∧ Cond.static Lib.Math.min.name ∈ lw_tbl ∧ Cond.initialized "java/lang/Math" ∈ lw_tbl ∧ Cond.code Lib.Math.max.name Lib.Math.max.code 2 (some .int) ∈ lw_tbl ∧ Cond.code Lib.Math.min.name Lib.Math.min.code 2 (some .int) ∈ lw_tbl := by decide +kernel
theorem cat8 (st : XS) : ((st.map cv).map fun v => v.category).sum ≤ 2 * st.length := by
  induction st with
  | nil => simp
  | cons a r ih =>
    have : (cv a).category ≤ 2 := by rcases lv_cat (cv a) with q | q <;> omega
    simp only [List.map_cons, List.sum_cons, List.length_cons]
    omega
theorem cs_at {l : Launch} {s0 : State} {i d : Nat} {p : Program} {s : State} {m : MethodId} {meth : Method} {c : Code} {R : Room} {h : AH} {H : Heap} {locs : List Loc} {cls : Array Slot} {ls : XL} (C : Cx l s0 i d p s m meth c R) (A : At1 s0 s h H locs cls ls) : H.size - s.heap.size ≤ R.cells ∧ us s.heap.size H ≤ R.slots := by
  have e1 := A.1.1
  have e2 := A.1.2.2.2.1
  have e3 := A.2.2.1
  have e4 := A.2.1
  obtain ⟨l1, l2⟩ := A.1.2.2.2.2.1
  rw [C.room]
  unfold rm
  dsimp only
  omega
theorem sd_max {i pc ix ml : Nat} (hd : decode (mi i).2.1 pc = .ok (.invokestatic ix, 3)) (hl : Cond.methodLink (mi i).1.cls ix Lib.Math.max.name ∈ lw_tbl) (hml : (mi i).2.2.1 = ml) : Sd i pc 3 (i_max ml) := by
  intro l s0 d Q J K ls st h hk hJ hK p e s m args below meth c R H locs cls C A
  unfold i_max at hk
  split at hk
  · next b a r =>
    obtain ⟨⟨ha, hb, hr, hd0, hlen⟩, hk⟩ := hk
    have k := hK _ _ _ hk p e s m args below meth c R H locs cls C A
    have hR := C.room
    have hc8 := cat8 r
    obtain ⟨hcc, hss⟩ := cs_at C A
    refine va_mmax (rest := r.map cv) (x := Int32.ofInt a) (y := Int32.ofInt b) C.exec C.code (by rw [C.maxL, hml, ← hlen]; exact A.lo.1.symm) C.own (C.wd.use hl rfl rfl args) (C.wd.use tl_mth.1 rfl rfl args) (C.wd.use tl_mth.2.2.1 rfl rfl args) (C.wd.use tl_mth.2.2.2.1 rfl rfl args) (by rw [hR]; show 1 ≤ d; omega) (by rw [hR]; show _ ≤ 64 * d; omega) hcc hss hd ?_
    have e1 : (if Int32.ofInt a < Int32.ofInt b then Int32.ofInt b else Int32.ofInt a) = Int32.ofInt (max a b) := by
      by_cases hh : Int32.ofInt a < Int32.ofInt b
      · rw [if_pos hh]
        have := (rg_lt ha hb).mp hh
        congr 1; omega
      · rw [if_neg hh]
        have : ¬ _ := fun z => hh ((rg_lt ha hb).mpr z)
        congr 1; omega
    rw [e1]
    exact k
  · exact hk.elim
theorem sd_min {i pc ix ml : Nat} (hd : decode (mi i).2.1 pc = .ok (.invokestatic ix, 3)) (hl : Cond.methodLink (mi i).1.cls ix Lib.Math.min.name ∈ lw_tbl) (hml : (mi i).2.2.1 = ml) : Sd i pc 3 (i_min ml) := by
  intro l s0 d Q J K ls st h hk hJ hK p e s m args below meth c R H locs cls C A
  unfold i_min at hk
  split at hk
  · next b a r =>
    obtain ⟨⟨ha, hb, hr, hd0, hlen⟩, hk⟩ := hk
    have k := hK _ _ _ hk p e s m args below meth c R H locs cls C A
    have hR := C.room
    have hc8 := cat8 r
    obtain ⟨hcc, hss⟩ := cs_at C A
    refine va_mmin (rest := r.map cv) (x := Int32.ofInt a) (y := Int32.ofInt b) C.exec C.code (by rw [C.maxL, hml, ← hlen]; exact A.lo.1.symm) C.own (C.wd.use hl rfl rfl args) (C.wd.use tl_mth.2.1 rfl rfl args) (C.wd.use tl_mth.2.2.1 rfl rfl args) (C.wd.use tl_mth.2.2.2.2 rfl rfl args) (by rw [hR]; show 1 ≤ d; omega) (by rw [hR]; show _ ≤ 64 * d; omega) hcc hss hd ?_
    have e1 : (if Int32.ofInt b < Int32.ofInt a then Int32.ofInt b else Int32.ofInt a) = Int32.ofInt (min a b) := by
      by_cases hh : Int32.ofInt b < Int32.ofInt a
      · rw [if_pos hh]
        have := (rg_lt hb ha).mp hh
        congr 1; omega
      · rw [if_neg hh]
        have : ¬ _ := fun z => hh ((rg_lt hb ha).mpr z)
        congr 1; omega
    rw [e1]
    exact k
  · exact hk.elim
