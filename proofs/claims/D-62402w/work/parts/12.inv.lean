/-! invocations -/
def tkr (n : Nat) (st : XS) (acc : List AV) : Option (List AV × XS) := match n, st with
  | 0, st => some (acc, st)
  | n + 1, x :: r => tkr n r (x :: acc)
  | _ + 1, [] => none
theorem tkr_ok : ∀ (n : Nat) (st : XS) (acc as : List AV) (rest : XS), tkr n st acc = some (as, rest) → ∃ b : List AV, as = b ++ acc ∧ st = b.reverse ++ rest ∧ b.length = n
  | 0, st, acc, as, rest, h => by
    simp only [tkr, Option.some.injEq, Prod.mk.injEq] at h
    exact ⟨[], by simp [h.1], by simp [h.2], rfl⟩
  | n + 1, [], acc, as, rest, h => by simp [tkr] at h
  | n + 1, x :: r, acc, as, rest, h => by
    simp only [tkr] at h
    obtain ⟨b, h1, h2, h3⟩ := tkr_ok n r (x :: acc) as rest h
    exact ⟨b ++ [x], by simp [h1], by simp [h2], by simp [h3]⟩
def aft (K : KT) (Q : AO → AH → Prop) (J : Nat → XL → XS → AH → Prop) (ls : XL) (rest : XS) (hs : List (Nat × List Nat × List Nat)) : AO → AH → Prop := fun o h' => match o with
  | .inl none => K ls rest h'
  | .inl (some v) => K ls (v :: rest) h'
  | .inr q => thr Q J ls q h' hs
def mtOk (j : Nat) : Prop := cdC j ∈ lw_tbl ∧ Cond.initialized (mi j).1.cls ∈ lw_tbl ∧ (mi j).2.2.1 ≤ 30 ∧ ((mi j).1.cls ≠ "java/lang/invoke/MethodHandle" ∧ (mi j).1.cls ≠ "java/lang/invoke/VarHandle")
def prm (x : MethodName) (n : Nat) : Prop := (parseMethodDescriptor x.desc).map (fun d => d.parameters.length) = some n
theorem prm_at {x : MethodName} {n k : Nat} (h : prm x n) (hk : k = n) : ∀ sig, parseMethodDescriptor x.desc = some sig → k = sig.parameters.length := by
  intro sig hs
  unfold prm at h
  rw [hs] at h
  rw [hk]
  exact (Option.some.inj h).symm
def i_cS (j n ml : Nat) (hs : List (Nat × List Nat × List Nat)) : Tr := fun l s0 d Q J ls st h K => match tkr n st [] with
  | some (as, rest) => (rest.length ≤ 8 ∧ 0 < d ∧ ls.length = ml) ∧ MP l s0 j (d - 1) as h (aft K Q J ls rest hs)
  | none => False
theorem sd_static {i pc ix j n ml : Nat} {hs : List (Nat × List Nat × List Nat)} (hd : decode (mi i).2.1 pc = .ok (.invokestatic ix, 3)) (hl : Cond.methodLink (mi i).1.cls ix (mi j).1 ∈ lw_tbl) (hst : Cond.static (mi j).1 ∈ lw_tbl) (hm : mtOk j) (hp : prm (mi j).1 n) (hml : (mi i).2.2.1 = ml) (hh : HsOk i pc hs) : Sd i pc 3 (i_cS j n ml hs) := by
  intro l s0 d Q J K ls st h hk hJ hK p e s m args below meth c R H locs cls C A
  unfold i_cS at hk
  split at hk
  · next as rest he =>
    obtain ⟨⟨hr, hd0, hlen⟩, hM⟩ := hk
    obtain ⟨b, b1, b2, b3⟩ := tkr_ok n st [] as rest he
    rw [List.append_nil] at b1
    subst b1
    subst b2
    obtain ⟨m1, m2, m3, m4⟩ := hm
    intro T hT X
    have hcode := C.wd.use m1 (cd_tab j).2 (cd_tab j).1 args
    have hstat := C.wd.use hst rfl rfl args
    obtain ⟨mk, methM, hnamed, hmethM, hstatic⟩ : ∃ mk methM, s.methodNamed? (mi j).1 = some mk ∧ s.vm.method? mk = some methM ∧ methM.isStatic = true := by
      have hh2 := hstat
      simp only [Cond.before, Cond.holds, Cond.value] at hh2
      cases q1 : s.methodNamed? (mi j).1 with
      | none => simp [q1] at hh2
      | some mk =>
        cases q2 : s.vm.method? mk with
        | none => simp [q1, q2] at hh2
        | some mm => exact ⟨mk, mm, rfl, q2, Cond.static_spec q1 q2 hstat⟩
    obtain ⟨methM', cM, hmethM', -, -, -, -, -, -, hsigM⟩ := cd_spec hnamed hcode
    cases hmethM.symm.trans hmethM'
    obtain ⟨kP, hkP, -⟩ := className_of_methodNamed hnamed
    have hinitP : kP.init = .initialized := Cond.initialized_spec (findClass_of_methodNamed hnamed) hkP (C.wd.use m2 rfl rfl #[])
    obtain ⟨vm₁, X₁, hstep₁⟩ := X.invokestatic C.exec C.own (C.wd.use hl rfl rfl args) hnamed hmethM hstatic hkP hinitP m4 (g := F0 m pc cls ((as.reverse ++ rest).map cv)) rfl (argsL := as.map cv) (rest := rest.map cv) (prm_at hp (by simp [b3]) _ hsigM) (by simp) (by rw [C.code]; exact hd)
    refine call_fin C A hT X₁ (by rw [A.lo.1, hlen, C.maxL, hml]) hd hnamed m1 m2 m3 hM (by omega) hr (fun target h9 => hstep₁ _ (fun acts => by rw [doInvoke_state]; exact h9)) ?_ ?_
    · intro v h' hq
      cases v with
      | none => exact hK _ _ _ hq
      | some v => exact hK _ _ _ hq
    · intro q h' hq
      exact hh l s0 d Q J ls rest h' q hq hJ
  · exact hk.elim
def i_cI (j n ml : Nat) (hs : List (Nat × List Nat × List Nat)) : Tr := fun l s0 d Q J ls st h K => match tkr n st [] with
  | some (.inr (.inl q) :: as, rest) => (rest.length ≤ 8 ∧ 0 < d ∧ ls.length = ml ∧ q ≠ 0) ∧ MP l s0 j (d - 1) (vR q :: as) h (aft K Q J ls rest hs)
  | _ => False
theorem sd_init {i pc ix j n ml : Nat} {hs : List (Nat × List Nat × List Nat)} (hd : decode (mi i).2.1 pc = .ok (.invokespecial ix, 3)) (hl : Cond.methodLink (mi i).1.cls ix (mi j).1 ∈ lw_tbl) (hin : Cond.instanceMethod (mi j).1 ∈ lw_tbl) (hm : mtOk j) (hp : prm (mi j).1 n) (hnm : (mi j).1.name = "<init>") (hnh : (mi j).2.2.2 = (none, [])) (hml : (mi i).2.2.1 = ml) (hh : HsOk i pc hs) : Sd i pc 3 (i_cI j (n + 1) ml hs) := by
  intro l s0 d Q J K ls st h hk hJ hK p e s m args below meth c R H locs cls C A
  unfold i_cI at hk
  split at hk
  · next q as rest he =>
    obtain ⟨⟨hr, hd0, hlen, hq0⟩, hM⟩ := hk
    obtain ⟨b, b1, b2, b3⟩ := tkr_ok (n + 1) st [] _ rest he
    rw [List.append_nil] at b1
    subst b1
    subst b2
    obtain ⟨a, rfl⟩ : ∃ a, q = a + 1 := ⟨q - 1, by omega⟩
    have b4 : as.length = n := by simpa using b3
    obtain ⟨m1, m2, m3, m4⟩ := hm
    intro T hT X
    have hcode : (Cond.code (mi j).1 (mi j).2.1 (mi j).2.2.1 none).before args s = true := by
      have h9 := C.wd.use m1 (cd_tab j).2 (cd_tab j).1 args
      unfold cdC at h9
      rw [if_pos (by rw [hnh]), hnh] at h9
      exact h9
    have hpl : e.platform.magicAccessors = ({} : Platform).magicAccessors := by rw [X.admits.platform]
    obtain ⟨mk, methM, cM, kP, vm₁, hnamed, hmethM, hcodeM, -, hlocalsM, -, hkP, -, hW₁, hstep₁⟩ := Steps.initColdArgs (e := e) (f := F0 m pc cls (((vR (a + 1) :: as).reverse ++ rest).map cv)) X.here C.exec X.warmed hpl C.own hnm m4 (C.wd.use hl rfl rfl args) (C.wd.use hin rfl rfl args) hcode rfl (argsL := as.map cv) (rest := rest.map cv) (a := a) (prm_at hp (by simp [b4])) (by simp [cv, cR]) (by rw [C.code]; exact hd)
    have X₁ := X.noted hW₁
    refine call_fin C A hT X₁ (by rw [A.lo.1, hlen, C.maxL, hml]) hd hnamed m1 m2 m3 hM (by omega) hr (fun target h9 => hstep₁ _ (fun acts => by rw [doInvoke_state]; exact h9)) ?_ ?_
    · intro v h' hq
      cases v with
      | none => exact hK _ _ _ hq
      | some v => exact hK _ _ _ hq
    · intro q h' hq
      exact hh l s0 d Q J ls rest h' q hq hJ
  · exact hk.elim
theorem sd_initN {i pc ix j n ml : Nat} {host : String} {hs : List (Nat × List Nat × List Nat)} (hd : decode (mi i).2.1 pc = .ok (.invokespecial ix, 3)) (hl : Cond.methodLinkNest (mi i).1.cls ix (mi j).1 host ∈ lw_tbl) (hin : Cond.instanceMethod (mi j).1 ∈ lw_tbl) (hm : mtOk j) (hp : prm (mi j).1 n) (hnm : (mi j).1.name = "<init>") (hnh : (mi j).2.2.2 = (none, [])) (hml : (mi i).2.2.1 = ml) (hh : HsOk i pc hs) : Sd i pc 3 (i_cI j (n + 1) ml hs) := by
  intro l s0 d Q J K ls st h hk hJ hK p e s m args below meth c R H locs cls C A
  unfold i_cI at hk
  split at hk
  · next q as rest he =>
    obtain ⟨⟨hr, hd0, hlen, hq0⟩, hM⟩ := hk
    obtain ⟨b, b1, b2, b3⟩ := tkr_ok (n + 1) st [] _ rest he
    rw [List.append_nil] at b1
    subst b1
    subst b2
    obtain ⟨a, rfl⟩ : ∃ a, q = a + 1 := ⟨q - 1, by omega⟩
    have b4 : as.length = n := by simpa using b3
    obtain ⟨m1, m2, m3, m4⟩ := hm
    intro T hT X
    have hcode : (Cond.code (mi j).1 (mi j).2.1 (mi j).2.2.1 none).before args s = true := by
      have h9 := C.wd.use m1 (cd_tab j).2 (cd_tab j).1 args
      unfold cdC at h9
      rw [if_pos (by rw [hnh]), hnh] at h9
      exact h9
    have hpl : e.platform.magicAccessors = ({} : Platform).magicAccessors := by rw [X.admits.platform]
    obtain ⟨mk, methM, cM, kP, vm₁, hnamed, hmethM, hcodeM, -, hlocalsM, -, hkP, -, hW₁, hstep₁⟩ := Steps.initColdArgsNest (e := e) (f := F0 m pc cls (((vR (a + 1) :: as).reverse ++ rest).map cv)) X.here C.exec X.warmed hpl C.own hnm m4 (C.wd.use hl rfl rfl args) (C.wd.use hin rfl rfl args) hcode rfl (argsL := as.map cv) (rest := rest.map cv) (a := a) (prm_at hp (by simp [b4])) (by simp [cv, cR]) (by rw [C.code]; exact hd)
    have X₁ := X.noted hW₁
    refine call_fin C A hT X₁ (by rw [A.lo.1, hlen, C.maxL, hml]) hd hnamed m1 m2 m3 hM (by omega) hr (fun target h9 => hstep₁ _ (fun acts => by rw [doInvoke_state]; exact h9)) ?_ ?_
    · intro v h' hq
      cases v with
      | none => exact hK _ _ _ hq
      | some v => exact hK _ _ _ hq
    · intro q h' hq
      exact hh l s0 d Q J ls rest h' q hq hJ
  · exact hk.elim
def look (ds : List (Nat × Nat)) (t : Nat) : Option Nat := match ds with
  | [] => none
  | x :: r => if x.1 = t then some x.2 else look r t
theorem look_mem : ∀ (ds : List (Nat × Nat)) (t j : Nat), look ds t = some j → (t, j) ∈ ds
  | [], _, _, h => by simp [look] at h
  | x :: r, t, j, h => by
    unfold look at h
    split at h
    · next hx => cases h; subst hx; exact List.mem_cons_self
    · exact List.mem_cons_of_mem _ (look_mem r t j h)
def i_cV (ds : List (Nat × Nat)) (n ml : Nat) (hs : List (Nat × List Nat × List Nat)) : Tr := fun l s0 d Q J ls st h K => match tkr n st [] with
  | some (.inr (.inl q) :: as, rest) => (rest.length ≤ 8 ∧ 0 < d ∧ ls.length = ml) ∧ (match look ds (gT h q).1 with
    | some j => MP l s0 j (d - 1) (vR q :: as) h (aft K Q J ls rest hs)
    | none => False)
  | _ => False
/-- what a receiver's class wants of the method that it selects -/
def vOk (x : MethodName) (t j : Nat) : Prop := Cond.selects (cN t) x (mi j).1 ∈ lw_tbl ∧ Cond.instanceMethod (mi j).1 ∈ lw_tbl ∧ mtOk j ∧ isA t = false ∧ t ≠ 0
theorem sd_virt {i pc ix n ml : Nat} {ds : List (Nat × Nat)} {hs : List (Nat × List Nat × List Nat)} (x : MethodName) (hd : decode (mi i).2.1 pc = .ok (.invokevirtual ix, 3)) (hl : Cond.methodLink (mi i).1.cls ix x ∈ lw_tbl) (hx : ∀ t j, (t, j) ∈ ds → (mi j).1 = x) (hv : ∀ t j, (t, j) ∈ ds → vOk x t j) (hp : prm x n) (hml : (mi i).2.2.1 = ml) (hh : HsOk i pc hs) : Sd i pc 3 (i_cV ds (n + 1) ml hs) := by
  intro l s0 d Q J K ls st h hk hJ hK p e s m args below meth c R H locs cls C A
  unfold i_cV at hk
  split at hk
  · next q as rest he =>
    obtain ⟨⟨hr, hd0, hlen⟩, hM⟩ := hk
    split at hM
    · next j hlk =>
      obtain ⟨b, b1, b2, b3⟩ := tkr_ok (n + 1) st [] _ rest he
      rw [List.append_nil] at b1
      subst b1
      subst b2
      have b4 : as.length = n := by simpa using b3
      obtain ⟨v1, v2, ⟨m1, m2, m3, m4⟩, v4, v5⟩ := hv _ _ (look_mem _ _ _ hlk)
      obtain ⟨a, hqa, cellB, hcB, hoB, hclB⟩ := obj_at C.al A.1 v4 v5
      subst hqa
      intro T hT X
      have hxj := hx _ _ (look_mem _ _ _ hlk)
      obtain ⟨mk, methM, hnamed, hmethM, hstM, habM⟩ := Cond.instanceMethod_spec (C.wd.use v2 rfl rfl args)
      obtain ⟨methM', cM, hmethM', -, -, -, -, -, -, hsigM⟩ := cd_spec hnamed (C.wd.use m1 (cd_tab j).2 (cd_tab j).1 args)
      cases hmethM.symm.trans hmethM'
      obtain ⟨c2, r2, m9, q1, q2, q3, q4, kP, hkP, hkPi⟩ := Cond.selects_spec (C.wd.use v1 rfl rfl args)
      cases hclB.symm.trans q1
      rw [← hxj] at q2
      cases (State.methodFound?_of_named hnamed m4).symm.trans q2
      cases hnamed.symm.trans q3
      have hselP : selectMethod e.platform s.vm cellB.cls mk = .method mk := by rw [Launch.admits_selectMethod X.admits]; exact q4
      have hl' := C.wd.use hl rfl rfl args
      rw [← hxj] at hl'
      rw [← hxj] at hp
      obtain ⟨vm₁, X₁, hstep₁⟩ := X.invokevirtual C.exec C.own hl' hnamed hmethM hstM hkP hkPi m4 (a := a) (cell := cellB) (by rw [hT]; exact hcB)
        (fun z h => by rw [h] at hoB; cases hoB) hselP hmethM habM hkP hkPi (g := F0 m pc cls (((vR (a + 1) :: as).reverse ++ rest).map cv)) rfl (argsL := as.map cv) (rest := rest.map cv) (prm_at hp (by simp [b4]) _ hsigM) (by simp [cv, cR]) (by rw [C.code]; exact hd)
      refine call_fin C A hT X₁ (by rw [A.lo.1, hlen, C.maxL, hml]) hd hnamed m1 m2 m3 hM (by omega) hr (fun target h9 => hstep₁ _ (fun acts => by rw [doInvoke_state]; exact h9)) ?_ ?_
      · intro v h' hq
        cases v with
        | none => exact hK _ _ _ hq
        | some v => exact hK _ _ _ hq
      · intro q h' hq
        exact hh l s0 d Q J ls rest h' q hq hJ
    · exact hM.elim
  · exact hk.elim
theorem sd_virtU {i pc ix n ml : Nat} {ds : List (Nat × Nat)} {hs : List (Nat × List Nat × List Nat)} (x : MethodName) (owner : String) (hd : decode (mi i).2.1 pc = .ok (.invokevirtual ix, 3)) (hl : Cond.methodLink (mi i).1.cls ix x ∈ lw_tbl) (hsame : Cond.sameMethod x.cls owner x.name x.desc ∈ lw_tbl) (hdec : Cond.declares ⟨owner, x.name, x.desc⟩ ∈ lw_tbl ∨ ∃ j0, (mi j0).1 = ⟨owner, x.name, x.desc⟩ ∧ Cond.instanceMethod ⟨owner, x.name, x.desc⟩ ∈ lw_tbl ∧ cdC j0 ∈ lw_tbl) (howner : owner ≠ "java/lang/invoke/MethodHandle" ∧ owner ≠ "java/lang/invoke/VarHandle") (hv : ∀ t j, (t, j) ∈ ds → vOk x t j) (hp : prm x n) (hml : (mi i).2.2.1 = ml) (hh : HsOk i pc hs) : Sd i pc 3 (i_cV ds (n + 1) ml hs) := by
  intro l s0 d Q J K ls st h hk hJ hK p e s m args below meth c R H locs cls C A
  unfold i_cV at hk
  split at hk
  · next q as rest he =>
    obtain ⟨⟨hr, hd0, hlen⟩, hM⟩ := hk
    split at hM
    · next j hlk =>
      obtain ⟨b, b1, b2, b3⟩ := tkr_ok (n + 1) st [] _ rest he
      rw [List.append_nil] at b1
      subst b1
      subst b2
      have b4 : as.length = n := by simpa using b3
      obtain ⟨v1, v2, ⟨m1, m2, m3, m4⟩, v4, v5⟩ := hv _ _ (look_mem _ _ _ hlk)
      obtain ⟨a, hqa, cellB, hcB, hoB, hclB⟩ := obj_at C.al A.1 v4 v5
      subst hqa
      intro T hT X
      obtain ⟨r0, r, hn, hrm, hstR, hsigR⟩ : va_Decl s ⟨owner, x.name, x.desc⟩ := by
        rcases hdec with hz | ⟨j0, y1, y2, y3⟩
        · exact va_Decl.abs (C.wd _ hz rfl)
        · obtain ⟨r0, r, hn, hrm, hst, -⟩ := Cond.instanceMethod_spec (C.wd.use y2 rfl rfl args)
          obtain ⟨r', c0, hrm', -, -, -, -, -, -, hsig⟩ := cd_spec (j := j0) (by rw [y1]; exact hn) (C.wd.use y3 (cd_tab j0).2 (cd_tab j0).1 args)
          cases hrm.symm.trans hrm'
          rw [y1] at hsig
          exact ⟨r0, r, hn, hrm, hst, hsig⟩
      obtain ⟨cn, ck, r1, hcn, hck, hni, hf, hn1⟩ := Cond.sameMethod_found (C.wd.use hsame rfl rfl args)
      cases hn.symm.trans hn1
      obtain ⟨mk, methM, hnamed, hmethM, -, habM⟩ := Cond.instanceMethod_spec (C.wd.use v2 rfl rfl args)
      obtain ⟨c2, r2, m9, q1, q2, q3, q4, kP, hkP, hkPi⟩ := Cond.selects_spec (C.wd.use v1 rfl rfl args)
      cases hclB.symm.trans q1
      cases hf.symm.trans q2
      cases hnamed.symm.trans q3
      have hselP : selectMethod e.platform s.vm cellB.cls r0 = .method mk := by rw [Launch.admits_selectMethod X.admits]; exact q4
      obtain ⟨vm₁, X₁, hstep₁⟩ := X.invokevirtualUp C.exec C.own (C.wd.use hl rfl rfl args) (C.wd.use hsame rfl rfl args) howner hn hrm hstR (a := a) (cell := cellB) (by rw [hT]; exact hcB)
        (fun z h => by rw [h] at hoB; cases hoB) hselP hmethM habM hkP hkPi (g := F0 m pc cls (((vR (a + 1) :: as).reverse ++ rest).map cv)) rfl (argsL := as.map cv) (rest := rest.map cv) (prm_at hp (by simp [b4]) _ hsigR) (by simp [cv, cR]) (by rw [C.code]; exact hd)
      refine call_fin C A hT X₁ (by rw [A.lo.1, hlen, C.maxL, hml]) hd hnamed m1 m2 m3 hM (by omega) hr (fun target h9 => hstep₁ _ (fun acts => by rw [doInvoke_state]; exact h9)) ?_ ?_
      · intro v h' hq
        cases v with
        | none => exact hK _ _ _ hq
        | some v => exact hK _ _ _ hq
      · intro q h' hq
        exact hh l s0 d Q J ls rest h' q hq hJ
    · exact hM.elim
  · exact hk.elim
def i_cU (ts : List Nat) (j n ml : Nat) (hs : List (Nat × List Nat × List Nat)) : Tr := fun l s0 d Q J ls st h K => match tkr n st [] with
  | some (.inr (.inl q) :: as, rest) => (rest.length ≤ 8 ∧ 0 < d ∧ ls.length = ml ∧ ts.elem (gT h q).1 = true) ∧ MP l s0 j (d - 1) (vR q :: as) h (aft K Q J ls rest hs)
  | _ => False
theorem sd_super {i pc ix j n ml : Nat} {ts : List Nat} {hs : List (Nat × List Nat × List Nat)} (hd : decode (mi i).2.1 pc = .ok (.invokespecial ix, 3)) (hl : Cond.methodLink (mi i).1.cls ix (mi j).1 ∈ lw_tbl) (hsame : Cond.sameMethod (mi j).1.cls (mi j).1.cls (mi j).1.name (mi j).1.desc ∈ lw_tbl) (hsup : Cond.superclass (mi i).1.cls (mi j).1.cls ∈ lw_tbl) (hin : Cond.instanceMethod (mi j).1 ∈ lw_tbl) (hm : mtOk j) (hp : prm (mi j).1 n) (hno : (mi j).1.name ≠ "<init>") (hts : ∀ t ∈ ts, isA t = false ∧ t ≠ 0) (hml : (mi i).2.2.1 = ml) (hh : HsOk i pc hs) : Sd i pc 3 (i_cU ts j (n + 1) ml hs) := by
  intro l s0 d Q J K ls st h hk hJ hK p e s m args below meth c R H locs cls C A
  unfold i_cU at hk
  split at hk
  · next q as rest he =>
    obtain ⟨⟨hr, hd0, hlen, htg⟩, hM⟩ := hk
    obtain ⟨b, b1, b2, b3⟩ := tkr_ok (n + 1) st [] _ rest he
    rw [List.append_nil] at b1
    subst b1
    subst b2
    have b4 : as.length = n := by simpa using b3
    obtain ⟨v4, v5⟩ := hts _ (List.elem_iff.mp htg)
    obtain ⟨a, hqa, cellB, hcB, hoB, hclB⟩ := obj_at C.al A.1 v4 v5
    subst hqa
    obtain ⟨kB, hkB, -⟩ := Vm.findClass_spec hclB
    obtain ⟨m1, m2, m3, m4⟩ := hm
    intro T hT X
    obtain ⟨mk, methM, hnamed, hmethM, hstM, habM⟩ := Cond.instanceMethod_spec (C.wd.use hin rfl rfl args)
    obtain ⟨methM', cM, hmethM', -, -, -, -, -, -, hsigM⟩ := cd_spec hnamed (C.wd.use m1 (cd_tab j).2 (cd_tab j).1 args)
    cases hmethM.symm.trans hmethM'
    obtain ⟨ps, dk, kp, hps, hdk, hkp, hsuper, -, -, hnid⟩ := Cond.superclass_spec C.own (C.wd.use hsup rfl rfl args)
    have hn : s.methodNamed? ⟨(mi j).1.cls, (mi j).1.name, (mi j).1.desc⟩ = some mk := hnamed
    have hpm : ps = mk.cls := Option.some.inj (hps.symm.trans (findClass_of_methodNamed hnamed))
    have hsub : s.vm.isSubclass ps mk.cls = true := by rw [hpm]; simp [Vm.isSubclass, Vm.isSubclassAux]
    obtain ⟨vm₁, X₁, hstep₁⟩ := X.invokespecialUp C.exec C.own (C.wd.use hl rfl rfl args) (C.wd.use hsame rfl rfl args) hn hmethM hstM habM hno hdk hnid hps hsuper hsub (a := a) (cell := cellB) (by rw [hT]; exact hcB)
      (fun z h => by rw [h] at hoB; cases hoB) hkB (g := F0 m pc cls (((vR (a + 1) :: as).reverse ++ rest).map cv)) rfl (argsL := as.map cv) (rest := rest.map cv) (prm_at hp (by simp [b4]) _ hsigM) (by simp [cv, cR]) (by rw [C.code]; exact hd)
    refine call_fin C A hT X₁ (by rw [A.lo.1, hlen, C.maxL, hml]) hd hnamed m1 m2 m3 hM (by omega) hr (fun target h9 => hstep₁ _ (by rw [doInvoke_state]; exact h9)) ?_ ?_
    · intro v h' hq
      cases v with
      | none => exact hK _ _ _ hq
      | some v => exact hK _ _ _ hq
    · intro q h' hq
      exact hh l s0 d Q J ls rest h' q hq hJ
  · exact hk.elim
/-! Object's constructor -/
def i_obj (ml : Nat) : Tr := fun _ _ d _ _ ls st h K => match st with
  | .inr (.inl q) :: r => (q ≠ 0 ∧ r.length ≤ 8 ∧ 0 < d ∧ ls.length = ml) ∧ K ls r h
  | _ => False
theorem sd_obj {i pc ix ml : Nat} (hd : decode (mi i).2.1 pc = .ok (.invokespecial ix, 3)) (hl : Cond.methodLink (mi i).1.cls ix objectInit ∈ lw_tbl) (hin : Cond.instanceMethod objectInit ∈ lw_tbl) (hc : Cond.code objectInit ⟨#[0xb1]⟩ 1 none ∈ lw_tbl) (hml : (mi i).2.2.1 = ml) : Sd i pc 3 (i_obj ml) := by
  intro l s0 d Q J K ls st h hk hJ hK p e s m args below meth c R H locs cls C A
  unfold i_obj at hk
  split at hk
  · next q r =>
    obtain ⟨⟨h0, h1, h2, h3⟩, hk⟩ := hk
    obtain ⟨a, rfl⟩ : ∃ a, q = a + 1 := ⟨q - 1, by omega⟩
    have hR := C.room
    have hcat : ∀ st : XS, ((st.map cv).map fun v => v.category).sum ≤ 2 * st.length := by
      intro st
      induction st with
      | nil => simp
      | cons a r ih =>
        have : (cv a).category ≤ 2 := by rcases lv_cat (cv a) with q | q <;> omega
        simp only [List.map_cons, List.sum_cons, List.length_cons]
        omega
    refine W.objInit C.exec C.code C.own (C.wd.use hl rfl rfl args) (C.wd.use hin rfl rfl args) (C.wd.use hc rfl rfl args) (a := a) (rest := r.map cv) rfl (by rw [C.maxL, hml, ← h3]; exact A.lo.1) rfl hd ?_ ?_ (hK _ _ _ hk p e s m args below meth c R H locs cls C A)
    · rw [hR]; exact h2
    · rw [hR]
      have := hcat r
      show 2 * 0 + _ + 12 ≤ 64 * d
      omega
  · exact hk.elim
