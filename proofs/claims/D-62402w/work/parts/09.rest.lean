/-! casts -/
def i_cast (ys : List Nat) : Tr := fun _ _ _ _ _ ls st h K => match st with
  | .inr (.inl p) :: r => ys.elem (gT h p).1 = true ∧ K ls (vR p :: r) h
  | _ => False
theorem obj_at {s0 s : State} (al : s0.vm.Alike s.vm) {h : AH} {H : Heap} (A : Abs s0 h H) {q : Nat} (hA : isA (gT h q).1 = false) (h0 : (gT h q).1 ≠ 0) : ∃ a : Nat, q = a + 1 ∧ ∃ cell : Cell, H[a]? = some cell ∧ cell.vm.isStatics = false ∧ s.vm.findClass (cN (gT h q).1) = some cell.cls := by
  obtain ⟨a, cell, hc, hc1⟩ := A.cell h0
  refine ⟨a, hc1.1, cell, hc, hc1.2.2.1, ?_⟩
  have h9 : s.vm.findClass (cN (gT h q).1) = s0.vm.findClass (cN (gT h q).1) := al.findClass _ _
  have h10 := hc1.2.1
  unfold cok at h10
  rw [hA] at h10
  rw [h9]; exact h10
def okC (ys : List Nat) (nm : String) : Bool := ys.all fun t => !isA t && decide (t ≠ 0) && decide (Cond.castable (cN t) nm ∈ lw_tbl)
theorem okC_at {ys : List Nat} {nm : String} (h : okC ys nm = true) {t : Nat} (ht : ys.elem t = true) : isA t = false ∧ t ≠ 0 ∧ Cond.castable (cN t) nm ∈ lw_tbl := by
  unfold okC at h
  rw [List.all_eq_true] at h
  have h1 := h t (List.elem_iff.mp ht)
  simp only [Bool.and_eq_true, decide_eq_true_eq, Bool.not_eq_true'] at h1
  exact ⟨h1.1.1, h1.1.2, h1.2⟩
theorem sd_checkcast {i pc ix : Nat} {ys : List Nat} {nm : String} (hd : decode (mi i).2.1 pc = .ok (.checkcast ix, 3)) (hl : Cond.classLink (mi i).1.cls ix nm ∈ lw_tbl) (ho : okC ys nm = true) : Sd i pc 3 (i_cast ys) := by
  intro l s0 d Q J K ls st h hk hJ hK p e s m args below meth c R H locs cls C A
  unfold i_cast at hk
  split at hk
  · next q r =>
    obtain ⟨ht, hk⟩ := hk
    obtain ⟨o1, o2, o3⟩ := okC_at ho ht
    obtain ⟨a, rfl, hcell⟩ := obj_at C.al A.1 o1 o2
    exact va_castY C.exec C.code C.own (C.wd.use hl rfl rfl args) (C.wd _ o3 rfl) hcell hd (hK _ _ _ hk p e s m args below meth c R H locs cls C A)
  · exact hk.elim
def gflat : List Cond := flatC (Jvm.Cond.and given_1 narrow_1)
theorem GG.flat {l : Launch} {s0 : State} (h : GG l s0) : ∃ b : Nat, (∀ w ∈ lw_tbl, w.before #[Value.ref b] s0 = true) ∧ ∀ w ∈ gflat, w.before #[Value.ref b] s0 = true := by
  obtain ⟨-, -, b, h1, h2⟩ := h
  exact ⟨b, h1, flat_of_before _ h2⟩
def okNC (ys : List Nat) (nm : String) : Bool := ys.all fun t => !isA t && decide (t ≠ 0) && decide (Cond.not (.castable (cN t) nm) ∈ gflat)
theorem okNC_at {ys : List Nat} {nm : String} (h : okNC ys nm = true) {t : Nat} (ht : ys.elem t = true) : isA t = false ∧ t ≠ 0 ∧ Cond.not (.castable (cN t) nm) ∈ gflat := by
  unfold okNC at h
  rw [List.all_eq_true] at h
  have h1 := h t (List.elem_iff.mp ht)
  simp only [Bool.and_eq_true, decide_eq_true_eq, Bool.not_eq_true'] at h1
  exact ⟨h1.1.1, h1.1.2, h1.2⟩
theorem nc_at {l : Launch} {s0 s : State} (g : GG l s0) (al : s0.vm.Alike s.vm) {a b : String} (h : Cond.not (.castable a b) ∈ gflat) : va_Nc a b s := by
  obtain ⟨b0, -, h2⟩ := g.flat
  exact va_Nc.moved al (va_Nc.of (h2 _ h))
def i_inst (ys ns : List Nat) : Tr := fun _ _ _ _ _ ls st h K => match st with
  | .inr (.inl p) :: r => (ys.elem (gT h p).1 = true ∧ K ls (vI 1 :: r) h) ∨ (ns.elem (gT h p).1 = true ∧ K ls (vI 0 :: r) h)
  | _ => False
theorem sd_instanceof {i pc ix : Nat} {ys ns : List Nat} {nm : String} (hd : decode (mi i).2.1 pc = .ok (.instanceof ix, 3)) (hl : Cond.classLink (mi i).1.cls ix nm ∈ lw_tbl) (ho : okC ys nm = true) (hn : okNC ns nm = true) : Sd i pc 3 (i_inst ys ns) := by
  intro l s0 d Q J K ls st h hk hJ hK p e s m args below meth c R H locs cls C A
  unfold i_inst at hk
  split at hk
  · next q r =>
    rcases hk with ⟨ht, hk⟩ | ⟨ht, hk⟩
    · obtain ⟨o1, o2, o3⟩ := okC_at ho ht
      obtain ⟨a, rfl, hcell⟩ := obj_at C.al A.1 o1 o2
      exact va_instY C.exec C.code C.own (C.wd.use hl rfl rfl args) (C.wd _ o3 rfl) hcell hd (hK _ _ _ hk p e s m args below meth c R H locs cls C A)
    · obtain ⟨o1, o2, o3⟩ := okNC_at hn ht
      obtain ⟨a, rfl, hcell⟩ := obj_at C.al A.1 o1 o2
      exact va_instNo C.exec C.code C.own (C.wd.use hl rfl rfl args) (nc_at C.gg C.al o3) hcell hd (hK _ _ _ hk p e s m args below meth c R H locs cls C A)
  · exact hk.elim
/-! statics, String constants -/
def stN (n : Nat) : String × String × String := match n with
  | 0 => ("ContractDesk$Kind", "NULL", "LContractDesk$Kind;")
  | 1 => ("ContractDesk$Kind", "BOOLEAN", "LContractDesk$Kind;")
  | 2 => ("ContractDesk$Kind", "NUMBER", "LContractDesk$Kind;")
  | 3 => ("ContractDesk$Kind", "STRING", "LContractDesk$Kind;")
  | 4 => ("ContractDesk$Kind", "ARRAY", "LContractDesk$Kind;")
  | 5 => ("ContractDesk$Kind", "OBJECT", "LContractDesk$Kind;")
  | _ => ("jdk/internal/util/Preconditions", "SIOOBE_FORMATTER", "Ljava/util/function/BiFunction;")
def uncR (v : Option Value) : Nat := match v with
  | some (.ref a) => a + 1
  | _ => 0
def spt (s0 : State) (n : Nat) : Nat := uncR ((Term.static (stN n).1 (stN n).2.1 (stN n).2.2).eval #[] s0 none [] s0)
theorem tl_st : ∀ n, n < 7 → Cond.laysStatic (stN n).1 (stN n).2.1 (stN n).2.2 ∈ lw_tbl ∧ Cond.initialized (stN n).1 ∈ lw_tbl := by decide +kernel
theorem tl_ex : ∀ n, n < 6 → Cond.exactly (.static (stN n).1 (stN n).2.1 (stN n).2.2) "ContractDesk$Kind" ∈ gflat := by decide +kernel
theorem tl_sf : Cond.isRef (.static (stN 6).1 (stN 6).2.1 (stN 6).2.2) ∈ gflat := by decide +kernel
theorem tl_ne : ∀ a, a < 6 → ∀ b, b < 6 → a ≠ b → (Cond.not (.eq (.static (stN a).1 (stN a).2.1 (stN a).2.2) (.static (stN b).1 (stN b).2.1 (stN b).2.2)) ∈ gflat ∨ Cond.not (.eq (.static (stN b).1 (stN b).2.1 (stN b).2.2) (.static (stN a).1 (stN a).2.1 (stN a).2.2)) ∈ gflat) := by decide +kernel
theorem st_args (A : Array Value) (s0 : State) (a b c : String) : (Term.static a b c).eval A s0 none [] s0 = (Term.static a b c).eval #[] s0 none [] s0 := by simp only [Term.eval]
theorem st_eval {l : Launch} {s0 : State} (g : GG l s0) {n : Nat} (hn : n < 7) : (Term.static (stN n).1 (stN n).2.1 (stN n).2.2).eval #[] s0 none [] s0 = some (cR (spt s0 n)) := by
  obtain ⟨b, -, h2⟩ := g.flat
  by_cases h6 : n < 6
  · obtain ⟨a, c, cell, k, q1, -⟩ := Cond.exactly_spec (h2 _ (tl_ex n h6))
    rw [st_args] at q1
    unfold spt
    rw [q1]
    rfl
  · have : n = 6 := by omega
    subst this
    obtain ⟨v, q1, q2⟩ := Cond.isRef_spec (h2 _ tl_sf)
    rw [st_args] at q1
    unfold spt
    rw [q1]
    cases v <;> simp [Value.isRef] at q2 <;> rfl
theorem spt_pos {l : Launch} {s0 : State} (g : GG l s0) {n : Nat} (hn : n < 6) : spt s0 n ≠ 0 := by
  obtain ⟨b, -, h2⟩ := g.flat
  obtain ⟨a, c, cell, k, q1, -⟩ := Cond.exactly_spec (h2 _ (tl_ex n hn))
  rw [st_args] at q1
  unfold spt
  rw [q1]
  exact Nat.succ_ne_zero _
theorem spt_ne {l : Launch} {s0 : State} (g : GG l s0) {a b : Nat} (ha : a < 6) (hb : b < 6) (hne : a ≠ b) : spt s0 a ≠ spt s0 b := by
  intro e
  obtain ⟨b0, -, h2⟩ := g.flat
  have key : ∀ x y, x < 6 → y < 6 → spt s0 x = spt s0 y → Cond.not (.eq (.static (stN x).1 (stN x).2.1 (stN x).2.2) (.static (stN y).1 (stN y).2.1 (stN y).2.2)) ∈ gflat → False := by
    intro x y hx hy exy hm
    have h := h2 _ hm
    have e1 := st_eval g (n := x) (by omega)
    have e2 := st_eval g (n := y) (by omega)
    rw [← st_args #[Value.ref b0]] at e1 e2
    rw [exy] at e1
    have hp := spt_pos g hy
    obtain ⟨z, hz⟩ : ∃ z, spt s0 y = z + 1 := ⟨spt s0 y - 1, by omega⟩
    rw [hz] at e1 e2
    exact va_neR h e1 e2 rfl
  rcases tl_ne a ha b hb hne with h | h
  · exact key a b ha hb e h
  · exact key b a hb ha e.symm h
theorem st_Z {l : Launch} {s0 s : State} (g : GG l s0) (al : s0.vm.Alike s.vm) {C nm ds : String} {v : Value} (hl : Cond.laysStatic C nm ds ∈ lw_tbl) (hi : Cond.initialized C ∈ lw_tbl) (hv : (Term.static C nm ds).eval #[] s0 none [] s0 = some v) : va_Z C nm ds v (fun a => s0.heap.size ≤ a) s s0.heap := by
  obtain ⟨b, h1, -⟩ := g.flat
  exact va_Z.moved al (va_Zof (h1 _ hl) (h1 _ hi) (by rw [st_args]; exact hv) (fun a h => by omega))
theorem gets_core {i pc ix : Nat} {C nm ds : String} {x : AV} (hd : decode (mi i).2.1 pc = .ok (.getstatic ix, 3)) (hf : Cond.fieldLink (mi i).1.cls ix C nm ds ∈ lw_tbl) (hl : Cond.laysStatic C nm ds ∈ lw_tbl) (hi : Cond.initialized C ∈ lw_tbl)
    {l : Launch} {s0 : State} {d : Nat} {Q : AO → AH → Prop} {ls : XL} {st : XS} {h : AH} (hv : GG l s0 → (Term.static C nm ds).eval #[] s0 none [] s0 = some (cv x)) (hK : WP l s0 i d (pc + 3) ls (x :: st) h Q) : WP l s0 i d pc ls st h Q := by
  intro p e s m args below meth c R H locs cls C' A
  obtain ⟨cf, kf, fi, f, a, cell, h1, h2, h3, h4, h5, h6, h7, h8⟩ := st_Z C'.gg C'.al hl hi (hv C'.gg)
  have ha : a < s0.heap.size := by dsimp only at h8; omega
  exact W.gets C'.exec C'.code C'.own (C'.wd.use hf rfl rfl args) h1 h2 h3 h4 (by rw [A.1.2.2.1 a ha]; exact h5) (fun e => by rw [e] at h6; cases h6) h7 rfl hd (hK p e s m args below meth c R H locs cls C' A)
def i_gs (n : Nat) : Tr := fun _ s0 _ _ _ ls st h K => K ls (vR (spt s0 n) :: st) h
theorem sd_gs {i pc ix n : Nat} (hd : decode (mi i).2.1 pc = .ok (.getstatic ix, 3)) (hf : Cond.fieldLink (mi i).1.cls ix (stN n).1 (stN n).2.1 (stN n).2.2 ∈ lw_tbl) (hn : n < 7) : Sd i pc 3 (i_gs n) := by
  intro l s0 d Q J K ls st h hk hJ hK
  exact gets_core hd hf (tl_st n hn).1 (tl_st n hn).2 (x := vR (spt s0 n)) (fun g => st_eval g hn) (hK _ _ _ hk)
theorem tl_cs : Cond.eq (.static "java/lang/String" "COMPACT_STRINGS" "Z") (.int 1) ∈ gflat ∧ Cond.laysStatic "java/lang/String" "COMPACT_STRINGS" "Z" ∈ lw_tbl ∧ Cond.initialized "java/lang/String" ∈ lw_tbl := by decide +kernel
theorem sd_gsC {i pc ix : Nat} (hd : decode (mi i).2.1 pc = .ok (.getstatic ix, 3)) (hf : Cond.fieldLink (mi i).1.cls ix "java/lang/String" "COMPACT_STRINGS" "Z" ∈ lw_tbl) : Sd i pc 3 (i_ic 1) := by
  intro l s0 d Q J K ls st h hk hJ hK
  refine gets_core hd hf tl_cs.2.1 tl_cs.2.2 (x := vI 1) (fun g => ?_) (hK _ _ _ hk)
  obtain ⟨b, -, h2⟩ := g.flat
  have := va_eqi (h2 _ tl_cs.1)
  rw [st_args] at this
  exact this
def stp (s0 : State) (k : Nat) : Nat := uncR ((Term.string "ContractDesk$Reader" k).eval #[] s0 none [] s0)
def i_str (k : Nat) : Tr := fun _ s0 _ _ _ ls st h K => K ls (vR (stp s0 k) :: st) h
def rdK (k : Nat) : Bool := k == 78 || k == 87 || k == 89
def rdT (k : Nat) : String := if k = 78 then "null" else if k = 87 then "true" else "false"
theorem tl_str : ∀ k ∈ [78, 87, 89], Cond.stringRef "ContractDesk$Reader" k (rdT k) ∈ lw_tbl ∧ Cond.exactly (.string "ContractDesk$Reader" k) "java/lang/String" ∈ gflat := by decide +kernel
theorem sg_args (A : Array Value) (s0 : State) (a : String) (b : Nat) : (Term.string a b).eval A s0 none [] s0 = (Term.string a b).eval #[] s0 none [] s0 := by simp only [Term.eval]
theorem str_eval {l : Launch} {s0 : State} (g : GG l s0) {k : Nat} (hk : k ∈ [78, 87, 89]) : ∃ a, stp s0 k = a + 1 ∧ (Term.string "ContractDesk$Reader" k).eval #[] s0 none [] s0 = some (.ref a) := by
  obtain ⟨b, -, h2⟩ := g.flat
  obtain ⟨a, c, cell, k', q1, -⟩ := Cond.exactly_spec (h2 _ (tl_str k hk).2)
  rw [sg_args] at q1
  refine ⟨a, ?_, q1⟩
  unfold stp
  rw [q1]
  rfl
theorem sd_ldcS {i pc k : Nat} (hd : decode (mi i).2.1 pc = .ok (.ldc k, 2)) (ho : (mi i).1.cls = "ContractDesk$Reader") (hk : k ∈ [78, 87, 89]) : Sd i pc 2 (i_str k) := by
  intro l s0 d Q J K ls st h hk' hJ hK p e s m args below meth c R H locs cls C A
  obtain ⟨a, ha, hev⟩ := str_eval C.gg hk
  obtain ⟨b, h1, -⟩ := C.gg.flat
  have hR : vk_R "ContractDesk$Reader" k (rdT k) a s0 := ⟨by
    have := h1 _ (tl_str k hk).1
    exact this, hev⟩
  have hR' := vk_R.warm C.warm hR
  have k9 := hK _ _ _ hk' p e s m args below meth c R H locs cls C A
  rw [ha] at k9
  have hown := C.own
  rw [ho] at hown
  exact va_ldcS C.exec C.code hown hR' hd k9
/-! ends -/
theorem W.post {p : Program} {l : Launch} {e : Env} {R : Room} {s : State} {m : MethodId} {args : Array Value} {below : List Frame} {meth : Method} {c : Code} {H : Heap} {locs : List Loc} {cells slots : Nat} {Q Q' : State → Prop} {g : JFrame}
    (h : W p l e R s m args below meth c H locs cells slots Q g) (hq : ∀ t, Q t → Q' t) : W p l e R s m args below meth c H locs cells slots Q' g := by
  intro T hT X
  obtain ⟨t, a, b⟩ := h T hT X
  exact ⟨t, a, hq t b⟩
def rQ (s0 : State) (H : Heap) (h : AH) (o : AO) : Array Value → State → Outcome → State → Prop := fun _ _ oc t => oc = co o ∧ t.heap = H
theorem rQ_end {s0 s : State} {below : List Frame} {args : Array Value} {h : AH} {H : Heap} {locs : List Loc} {cls : Array Slot} {ls : XL} {Q : AO → AH → Prop} {o : AO} (A : At1 s0 s h H locs cls ls) (hq : Q o h) {t : State} (hm : MQ below (rQ s0 H h o) args s (H.size - s.heap.size) (us s.heap.size H) (fun q => s0.heap.size ≤ q) t) : EQ s0 s below Q t := by
  obtain ⟨oc, h1, h2, ⟨h3, h4⟩, L, ⟨-, h6, h7⟩, h8⟩ := hm
  subst h4
  exact ⟨oc, h1, h2, o, h, h3, A.1, hq, h6, L, h7, h8⟩
def i_ret : Tr := fun _ _ _ Q _ _ st h _ => match st with
  | [] => Q (.inl none) h
  | _ => False
theorem sd_ret {i pc : Nat} (hd : decode (mi i).2.1 pc = .ok (.return_, 1)) (hr : (mi i).2.2.2.1 = none) : Sd i pc 1 i_ret := by
  intro l s0 d Q J K ls st h hk hJ hK p e s m args below meth c R H locs cls C A
  unfold i_ret at hk
  split at hk
  · exact W.post (W.vret (Qc := rQ s0 H h (.inl none)) (free := fun q => s0.heap.size ≤ q) C.exec C.code (C.ret.trans hr) (fun t ht _ => ⟨rfl, ht⟩) A.2.2.2.2 hd C.locks) (fun t ht => rQ_end A hk ht)
  · exact hk.elim
def i_rI (v : Nat) : Tr := fun _ _ _ Q _ _ st h _ => match st with
  | [.inl z] => okV v z ∧ Q (.inl (some (vI z))) h
  | _ => False
theorem sd_ireturn {i pc v : Nat} (hd : decode (mi i).2.1 pc = .ok (.ireturn, 1)) (hv : v < 4) (hr : (mi i).2.2.2.1 = some (aTy v)) : Sd i pc 1 (i_rI v) := by
  intro l s0 d Q J K ls st h hk hJ hK p e s m args below meth c R H locs cls C A
  unfold i_rI at hk
  split at hk
  · next z =>
    exact W.post (W.zret (v := Int32.ofInt z) (Qc := rQ s0 H h (.inl (some (vI z)))) (free := fun q => s0.heap.size ≤ q) C.exec C.code (C.ret.trans hr) (okV_nar hv hk.1).1 (fun t ht _ => ⟨rfl, ht⟩) A.2.2.2.2 hd C.locks) (fun t ht => rQ_end A hk.2 ht)
  · exact hk.elim
def i_rR : Tr := fun _ _ _ Q _ _ st h _ => match st with
  | [.inr (.inl q)] => Q (.inl (some (vR q))) h
  | _ => False
theorem sd_areturn {i pc : Nat} {rt : FieldType} (hd : decode (mi i).2.1 pc = .ok (.areturn, 1)) (hr : (mi i).2.2.2.1 = some rt) (hrt : (∃ n, rt = .object n) ∨ ∃ t, rt = .array t) : Sd i pc 1 i_rR := by
  intro l s0 d Q J K ls st h hk hJ hK p e s m args below meth c R H locs cls C A
  unfold i_rR at hk
  split at hk
  · next z =>
    exact W.post (W.aret (v := cR z) (Qc := rQ s0 H h (.inl (some (vR z)))) (free := fun q => s0.heap.size ≤ q) C.exec C.code (C.ret.trans hr) hrt (cR_or z) (fun t ht _ => ⟨rfl, ht⟩) A.2.2.2.2 hd C.locks) (fun t ht => rQ_end A hk ht)
  · exact hk.elim
/-- no handler over pc -/
def noH (i pc : Nat) : Bool := (mi i).2.2.2.2.all fun q => !(decide (q.1 ≤ pc) && decide (pc < q.2.1))
theorem noH_out {l : Launch} {s0 : State} {i d pc : Nat} {p : Program} {s : State} {m : MethodId} {meth : Method} {c : Code} {R : Room} (C : Cx l s0 i d p s m meth c R) (h : noH i pc = true) : ∀ x ∈ c.exceptionTable.toList, covers x pc = false := by
  intro x hx
  have hm : (x.startPc, x.endPc, x.handlerPc, x.catchType) ∈ (mi i).2.2.2.2 := by
    rw [← C.exc]
    exact List.mem_map.mpr ⟨x, hx, rfl⟩
  unfold noH at h
  rw [List.all_eq_true] at h
  have h1 := h _ hm
  unfold covers
  simp at h1 ⊢
  omega
def i_throw : Tr := fun _ _ _ Q _ _ st h _ => match st with
  | .inr (.inl q) :: _ => q ≠ 0 ∧ Q (.inr q) h
  | _ => False
theorem sd_athrow {i pc : Nat} (hd : decode (mi i).2.1 pc = .ok (.athrow, 1)) (hn : noH i pc = true) : Sd i pc 1 i_throw := by
  intro l s0 d Q J K ls st h hk hJ hK p e s m args below meth c R H locs cls C A
  unfold i_throw at hk
  split at hk
  · next q r =>
    obtain ⟨h0, hk⟩ := hk
    obtain ⟨a, rfl⟩ : ∃ a, q = a + 1 := ⟨q - 1, by omega⟩
    intro T hT X
    have hlocks := C.locks
    obtain ⟨h1, h2, h3, h4, h5⟩ := X.athrowLeaves C.exec (g := F0 m pc cls (List.map cv (vR (a + 1) :: r))) rfl rfl rfl (noH_out C hn) (a := a) (rest := r.map cv) rfl (by rw [C.code]; exact hd) hlocks
    subst hT
    exact ⟨_, h1, .threw a, h2, h3, .inr (a + 1), h, rfl, A.1, hk, h4, locs, h5, A.2.2.2.2⟩
  · exact hk.elim
/-! switches -/
def swT (J : Nat → XL → XS → AH → Prop) (ls : XL) (r : XS) (h : AH) (a : Int) (lo : Int) (ts : List Nat) : Prop := match ts with
  | [] => True
  | t :: ts => (a = lo → J t ls r h) ∧ swT J ls r h a (lo + 1) ts
theorem swT_at {J : Nat → XL → XS → AH → Prop} {ls : XL} {r : XS} {h : AH} {a : Int} : ∀ (ts : List Nat) (lo : Int), swT J ls r h a lo ts → ∀ (n t : Nat), ts[n]? = some t → a = lo + n → J t ls r h
  | [], _, _, n, t, h, _ => by simp at h
  | t0 :: ts, lo, hs, 0, t, h1, h2 => by
    simp at h1
    subst h1
    exact hs.1 (by simpa using h2)
  | t0 :: ts, lo, hs, n + 1, t, h1, h2 => swT_at ts (lo + 1) hs.2 n t (by simpa using h1) (by rw [h2]; push_cast; omega)
def i_tsw (dflt : Nat) (lo hi : Int) (ts : List Nat) : Tr := fun _ _ _ _ J ls st h _ => match st with
  | .inl a :: r => rg a ∧ (a < lo ∨ hi < a → J dflt ls r h) ∧ swT J ls r h a lo ts
  | _ => False
theorem sd_tsw {i pc dflt len : Nat} {od lo hi : Int} {offs : Array Int} {ts : List Nat} (hd : decode (mi i).2.1 pc = .ok (.tableswitch od lo hi offs, len)) (h1 : (pc : Int) + od = dflt) (h2 : offs.toList.map (fun o => ((pc : Int) + o)) = ts.map (fun t : Nat => (t : Int))) (h3 : hi = lo + offs.size - 1) : Sd i pc len (i_tsw dflt lo hi ts) := by
  intro l s0 d Q J K ls st h hk hJ hK p e s m args below meth c R H locs cls C A
  unfold i_tsw at hk
  split at hk
  · next a r =>
    obtain ⟨ha, k1, k2⟩ := hk
    by_cases hb : a < lo ∨ hi < a
    · exact lv_tableOut C.exec C.code hd (by rw [rg_toInt ha]; exact hb) h1 (hJ _ _ _ _ (k1 hb) p e s m args below meth c R H locs cls C A)
    · have hlt : (a - lo).toNat < offs.size := by omega
      have ho : offs[(a - lo).toNat]? = some offs[(a - lo).toNat] := Array.getElem?_eq_getElem hlt
      have e1 : (ts.map (fun t : Nat => (t : Int)))[(a - lo).toNat]? = some ((pc : Int) + offs[(a - lo).toNat]) := by
        rw [← h2, List.getElem?_map, Array.getElem?_toList, ho]; rfl
      rw [List.getElem?_map] at e1
      obtain ⟨t, t1, t2⟩ := Option.map_eq_some_iff.mp e1
      refine lv_tableIn (off := offs[(a - lo).toNat]) (tgt := t) C.exec C.code hd (by rw [rg_toInt ha]; omega) (by rw [rg_toInt ha]; omega) (by rw [rg_toInt ha]; exact ho) t2.symm ?_
      exact hJ _ _ _ _ (swT_at ts lo k2 _ t t1 (by omega)) p e s m args below meth c R H locs cls C A
  · exact hk.elim
def swL (J : Nat → XL → XS → AH → Prop) (ls : XL) (r : XS) (h : AH) (a : Int) (ts : List (Int × Nat)) (dflt : Nat) : Prop := match ts with
  | [] => J dflt ls r h
  | t :: ts => (a = t.1 → J t.2 ls r h) ∧ (¬ a = t.1 → swL J ls r h a ts dflt)
theorem swL_at {J : Nat → XL → XS → AH → Prop} {ls : XL} {r : XS} {h : AH} {a : Int} {dflt : Nat} {pc od : Int} (hd : pc + od = dflt) : ∀ (ts : List (Int × Nat)) (ps : List (Int × Int)), ps.map (fun q => (q.1, pc + q.2)) = ts.map (fun q => (q.1, (q.2 : Int))) → swL J ls r h a ts dflt → ∃ t : Nat, pc + Op.lookupswitch.offset ps od a = t ∧ J t ls r h
  | [], [], _, hs => ⟨dflt, by rw [lookupswitch.offset_nil]; exact hd, hs⟩
  | [], _ :: _, h, _ => by simp at h
  | _ :: _, [], h, _ => by simp at h
  | t :: ts, q :: ps, hm, hs => by
    simp only [List.map_cons, List.cons.injEq, Prod.mk.injEq] at hm
    obtain ⟨⟨m1, m2⟩, m3⟩ := hm
    rw [show q = (q.1, q.2) from rfl, lookupswitch.offset_cons]
    by_cases hq : q.1 = a
    · rw [if_pos hq]
      exact ⟨t.2, m2, hs.1 (by rw [← m1]; exact hq.symm)⟩
    · rw [if_neg hq]
      exact swL_at hd ts ps m3 (hs.2 (fun z => hq (by rw [m1]; exact z.symm)))
def i_lsw (dflt : Nat) (ts : List (Int × Nat)) : Tr := fun _ _ _ _ J ls st h _ => match st with
  | .inl a :: r => rg a ∧ swL J ls r h a ts dflt
  | _ => False
theorem sd_lsw {i pc dflt len : Nat} {od : Int} {ps : Array (Int × Int)} {ts : List (Int × Nat)} (hd : decode (mi i).2.1 pc = .ok (.lookupswitch od ps, len)) (h1 : (pc : Int) + od = dflt) (h2 : ps.toList.map (fun q => (q.1, (pc : Int) + q.2)) = ts.map (fun q => (q.1, (q.2 : Int)))) (hp : (ps.toList.zip (ps.toList.drop 1)).all (fun (a, next) => a.1 < next.1) = true) : Sd i pc len (i_lsw dflt ts) := by
  intro l s0 d Q J K ls st h hk hJ hK p e s m args below meth c R H locs cls C A
  unfold i_lsw at hk
  split at hk
  · next a r =>
    obtain ⟨ha, k1⟩ := hk
    obtain ⟨t, t1, t2⟩ := swL_at h1 ts ps.toList h2 k1
    exact lv_lookup C.exec C.code hd hp (by rw [rg_toInt ha]) t1 (hJ _ _ _ _ t2 p e s m args below meth c R H locs cls C A)
  · exact hk.elim
