/-! System.arraycopy of ints or bytes -/
def cpA (h : AH) (src dst sp dp n : Nat) : AH := (h.1, h.2.1, h.2.2.1, (fun p k => if p = dst ∧ dp ≤ k ∧ k < dp + n then h.2.2.2.1 src (sp + (k - dp)) else h.2.2.2.1 p k), h.2.2.2.2)
theorem gI_cpA (h : AH) (src dst sp dp n p k : Nat) : gI (cpA h src dst sp dp n) p k = if p = dst ∧ dp ≤ k ∧ k < dp + n then gI h src (sp + (k - dp)) else gI h p k := rfl
theorem gR_cpA (h : AH) (src dst sp dp n p k : Nat) : gR (cpA h src dst sp dp n) p k = gR h p k := rfl
theorem gT_cpA (h : AH) (src dst sp dp n p : Nat) : gT (cpA h src dst sp dp n) p = gT h p := rfl
theorem hN_cpA (h : AH) (src dst sp dp n : Nat) : hN (cpA h src dst sp dp n) = hN h := rfl
theorem hU_cpA (h : AH) (src dst sp dp n : Nat) : hU (cpA h src dst sp dp n) = hU h := rfl
theorem sto_get : ∀ (xs : List Value) (c : Cell) (at_ i k : Nat), at_ + i + xs.length ≤ c.slots.size → (c.storePairs at_ (xs.zipIdx i)).slots[k]? = if at_ + i ≤ k ∧ k < at_ + i + xs.length then xs[k - (at_ + i)]? else c.slots[k]?
  | [], c, at_, i, k, _ => by
    rw [if_neg (by simp only [List.length_nil]; omega)]
    rfl
  | x :: xs, c, at_, i, k, h => by
    rw [List.zipIdx_cons]
    show (((c.setSlot (at_ + i) x)).storePairs at_ (xs.zipIdx (i + 1))).slots[k]? = _
    simp only [List.length_cons] at h ⊢
    rw [sto_get xs _ at_ (i + 1) k (by rw [setSlot_size]; omega)]
    by_cases hk : at_ + (i + 1) ≤ k ∧ k < at_ + (i + 1) + xs.length
    · rw [if_pos hk, if_pos (by omega)]
      have e : k - (at_ + i) = (k - (at_ + (i + 1))) + 1 := by omega
      rw [e, List.getElem?_cons_succ]
    · rw [if_neg hk, setSlot_get _ _ _ _ (by omega)]
      by_cases hk2 : k = at_ + i
      · subst hk2
        rw [if_pos rfl, if_pos (by omega)]
        simp
      · rw [if_neg hk2, if_neg (by omega)]
def i_acp (ts : List Nat) (v ml : Nat) : Tr := fun _ _ d _ _ ls st h K => match st with
  | .inl n :: .inl dp :: .inr (.inl y) :: .inl sp :: .inr (.inl x) :: r => (ts.elem (gT h x).1 = true ∧ ts.elem (gT h y).1 = true ∧ (0 ≤ n ∧ 0 ≤ sp ∧ 0 ≤ dp ∧ n < 2147483648 ∧ sp < 2147483648 ∧ dp < 2147483648 ∧ sp + n ≤ ((gT h x).2 : Int) ∧ dp + n ≤ ((gT h y).2 : Int)) ∧ (∀ k, k < n.toNat → okV v (gI h x (sp.toNat + k))) ∧ r.length ≤ 8 ∧ 0 < d ∧ ls.length = ml) ∧ K ls r (cpA h x y sp.toNat dp.toNat n.toNat)
  | _ => False
theorem tl_acp : Cond.native arraycopyName ∈ lw_tbl ∧ Cond.static arraycopyName ∈ lw_tbl ∧ Cond.initialized "java/lang/System" ∈ lw_tbl := by decide +kernel
theorem ncl {x : Int} (hr : rg x) (h : 0 ≤ x) : ¬ Int32.ofInt x < 0 := by
  have e : (0 : Int32) = Int32.ofInt 0 := rfl
  rw [e, rg_lt hr rg_0]; omega
set_option maxHeartbeats 2000000 in
theorem sd_acp {i pc ix v ml : Nat} {ts : List Nat} (hd : decode (mi i).2.1 pc = .ok (.invokestatic ix, 3)) (hl : Cond.methodLink (mi i).1.cls ix arraycopyName ∈ lw_tbl) (ho : okB ts v = true) (hv : v < 4) (hml : (mi i).2.2.1 = ml) : Sd i pc 3 (i_acp ts v ml) := by
  intro l s0 d Q J K ls st h hk hJ hK p e s m args below meth c R H locs cls C A
  unfold i_acp at hk
  split at hk
  · next n dp y sp x r =>
    obtain ⟨⟨tx, ty, ⟨n0, s0', d0, n1, s1, d1, b1, b2⟩, hvv, hr, hd0, hlen⟩, hk⟩ := hk
    obtain ⟨x1, x2, x3, x4⟩ := okB_at ho tx
    obtain ⟨y1, y2, y3, y4⟩ := okB_at ho ty
    obtain ⟨ax, cx, hcx, hcx1⟩ := A.1.cell (p := x) x2
    have hxa := hcx1.1
    subst hxa
    obtain ⟨ay, cy, hcy, hcy1⟩ := A.1.cell (p := y) y2
    have hya := hcy1.1
    subst hya
    have rn : rg n := ⟨by omega, by omega⟩
    have rs : rg sp := ⟨by omega, by omega⟩
    have rd : rg dp := ⟨by omega, by omega⟩
    have hax := cok_a (s := s) C.al x1 hcx1.2.1 hcx1.2.2.1
    have hay := cok_a (s := s) C.al y1 hcy1.2.1 hcy1.2.2.1
    rw [x3] at hax
    rw [y3] at hay
    obtain ⟨ox, kx, hkx, cmx, hkkx⟩ := hax
    obtain ⟨oy, ky, hky, cmy, hkky⟩ := hay
    have szx := hcx1.2.2.2.2.1
    have szy := hcy1.2.2.2.2.1
    have gx : ∀ k : Nat, k < (gT h (ax + 1)).2 → cx.slots[k]? = some (.int (Int32.ofInt (gI h (ax + 1) k))) := by
      intro k hkk
      have h9 := hcx1.2.2.2.2.2.1 k (by rw [nk_a x1]; exact hkk)
      rw [sx_a x1, kd_a x1, x3] at h9
      rw [h9]
      unfold slv
      rw [if_neg (by omega), if_neg (by omega)]
    have hR := C.room
    have hcat : ∀ st : XS, ((st.map cv).map fun v => v.category).sum ≤ 2 * st.length := by
      intro st
      induction st with
      | nil => simp
      | cons a r ih =>
        have : (cv a).category ≤ 2 := by rcases lv_cat (cv a) with q | q <;> omega
        simp only [List.map_cons, List.sum_cons, List.length_cons]
        omega
    have hc8 := hcat r
    intro T hT X
    obtain ⟨vm', X', step⟩ := X.arraycopy C.exec C.own (C.wd.use hl rfl rfl args) (C.wd.use tl_acp.1 rfl rfl args) (C.wd.use tl_acp.2.1 rfl rfl args) (C.wd.use tl_acp.2.2 rfl rfl args) (src := ax) (dst := ay) (cs := cx) (cd := cy) (srcPos := Int32.ofInt sp) (destPos := Int32.ofInt dp) (n := Int32.ofInt n) (by rw [hT]; exact hcx) (by rw [hT]; exact hcy)
      ox oy hcx1.2.2.2.1 hcy1.2.2.2.1 hkx hky hkkx hkky (by match v, hv with | 0, _ => rfl | 1, _ => rfl | 2, _ => rfl | 3, _ => rfl) (ncl rs s0') (ncl rd d0) (ncl rn n0)
      (by rw [rg_toInt rs, rg_toInt rn, szx]; omega) (by rw [rg_toInt rd, rg_toInt rn, szy]; omega)
      (fun vm₁ _ k hkk => by
        rw [rg_nat rn] at hkk
        rw [rg_nat rs]
        have e9 : cx.slots.getD (sp.toNat + k) .null = .int (Int32.ofInt (gI h (ax + 1) (sp.toNat + k))) := by
          rw [Array.getD_eq_getD_getElem?, gx _ (by omega)]; rfl
        rw [e9]
        exact ⟨(okV_nar hv (hvv k hkk)).2, trivial⟩)
      (g := F0 m pc cls ((vI n :: vI dp :: vR (ay + 1) :: vI sp :: vR (ax + 1) :: r).map cv)) rfl (by rw [C.maxL, hml, ← hlen]; exact A.lo.1) (rest := r.map cv) rfl (by rw [C.code]; exact hd) (by rw [hR]; exact hd0)
      (by
        rw [hR]
        have e8 : nativeFrameWords "java/lang/System" "arraycopy" 5 ≤ 30 := by decide +kernel
        show 2 * 0 + _ + _ ≤ 64 * d
        omega)
    have hlt : ay < T.heap.size := by rw [hT]; exact (Array.getElem?_eq_some_iff.mp hcy).1
    generalize hc' : copied cx cy (Int32.ofInt sp) (Int32.ofInt dp) (Int32.ofInt n) = cell' at X' step
    have hcp : cell' = cy.storePairs dp.toNat (((List.range n.toNat).map fun k => cx.slots.getD (sp.toNat + k) .null).zipIdx) := by
      rw [← hc', ← rg_nat rs, ← rg_nat rd, ← rg_nat rn]; rfl
    obtain ⟨p1, p2, p4, -, p3⟩ := Cell.storePairs_facts cy dp.toNat (((List.range n.toNat).map fun k => cx.slots.getD (sp.toNat + k) .null).zipIdx)
    rw [← hcp] at p1 p2 p3 p4
    have p5 : ∀ k : Nat, cell'.slots[k]? = if dp.toNat ≤ k ∧ k < dp.toNat + n.toNat then some (.int (Int32.ofInt (gI h (ax + 1) (sp.toNat + (k - dp.toNat))))) else cy.slots[k]? := by
      intro k
      rw [hcp, sto_get _ cy dp.toNat 0 k (by simp; omega)]
      simp only [Nat.add_zero, List.length_map, List.length_range]
      by_cases hkk : dp.toNat ≤ k ∧ k < dp.toNat + n.toNat
      · rw [if_pos hkk, if_pos hkk, List.getElem?_map, List.getElem?_range (by omega)]
        show some (cx.slots.getD (sp.toNat + (k - dp.toNat)) Value.null) = _
        rw [Array.getD_eq_getD_getElem?, gx _ (by omega)]; rfl
      · rw [if_neg hkk, if_neg hkk]
    have e1 : ((T.setVm vm').setCell ay cell').heap[ay]? = some cell' := heapAt_setCell_self _ hlt
    have e2 : ((T.setVm vm').setCell ay cell').heap.size = H.size := by rw [size_setCell]; exact congrArg Array.size hT
    have e3 : ∀ b, b ≠ ay → ((T.setVm vm').setCell ay cell').heap[b]? = H[b]? := fun b hb => by rw [heapAt_setCell_ne _ (Ne.symm hb)]; exact congrArg (fun z : Heap => z[b]?) hT
    generalize hT' : (T.setVm vm').setCell ay cell' = T' at X' step e1 e2 e3
    have hsz : ∀ b : Nat, (T'.heap[b]?).map (fun c => c.slots.size) = (H[b]?).map (fun c => c.slots.size) := by
      intro b
      by_cases hb : b = ay
      · subst hb; rw [e1, hcy]; simp [p4]
      · rw [e3 b hb]
    have hby := hcy1.2.2.2.2.2.2 y4
    have hAbs : Abs s0 (cpA h (ax + 1) (ay + 1) sp.toNat dp.toNat n.toNat) T'.heap := by
      obtain ⟨a1, a2, a3, a4, a6, a5⟩ := A.1
      refine ⟨by rw [e2]; exact a1, by rw [e2]; exact a2, fun b hb => by rw [e3 b (by have := hby.1; omega)]; exact a3 b hb, by rw [us_same e2 hsz]; exact a4, a6, fun q hq => ?_⟩
      obtain ⟨b, z, z1, z2⟩ := a5 q hq
      by_cases hb : b = ay
      · subst hb
        cases hcy.symm.trans z1
        have hqa := z2.1
        subst hqa
        refine ⟨b, cell', e1, rfl, by rw [p1]; exact z2.2.1, by rw [p2]; exact z2.2.2.1, by rw [p2]; exact z2.2.2.2.1, by rw [p4]; exact z2.2.2.2.2.1, fun k hkk => ?_, fun w => by rw [p2, p3]; exact z2.2.2.2.2.2.2 w⟩
        have h9 := z2.2.2.2.2.2.1 k hkk
        rw [gT_cpA, gI_cpA, gR_cpA]
        rw [sx_a y1, kd_a y1, y3] at h9 ⊢
        rw [p5]
        by_cases hkk2 : dp.toNat ≤ k ∧ k < dp.toNat + n.toNat
        · rw [if_pos hkk2, if_pos ⟨rfl, hkk2⟩]
          unfold slv
          rw [if_neg (by omega), if_neg (by omega)]
        · rw [if_neg hkk2, if_neg (fun w => hkk2 w.2)]
          exact h9
      · refine ⟨b, z, by rw [e3 b hb]; exact z1, z2.other rfl ?_ (fun _ _ => rfl)⟩
        intro k _
        rw [gI_cpA, if_neg (fun w => hb (by have := z2.1; omega))]
    have hA' : At1 s0 s (cpA h (ax + 1) (ay + 1) sp.toNat dp.toNat n.toNat) T'.heap (locs ++ (cx.stretch (Int32.ofInt sp).toNatClampNeg (Int32.ofInt n).toNatClampNeg).zipIdx.map fun q => ⟨ay, (Int32.ofInt dp).toNatClampNeg + q.2⟩) cls ls := by
      refine ⟨hAbs, by rw [e2]; exact A.2.1, by rw [us_same e2 hsz, us_same e2 hsz]; exact A.2.2.1, A.2.2.2.1, fun q hq => ?_⟩
      rcases List.mem_append.mp hq with z | z
      · exact A.2.2.2.2 q z
      · obtain ⟨w, -, hw⟩ := List.mem_map.mp z
        rw [← hw]; exact hby.1
    have k9 := hK _ _ _ hk p e s m args below meth c R T'.heap _ cls C hA'
    rw [e2, us_same (b := s.heap.size) e2 hsz] at k9
    obtain ⟨t9, z1, z2⟩ := k9 T' rfl X'
    exact ⟨t9, step _ z1, z2⟩
  · exact hk.elim
/-! the entry of a method -/
def enl (n : Nat) (as : List AV) : XL := match n, as with
  | 0, _ => []
  | n + 1, [] => none :: enl n []
  | n + 1, .inr (.inr z) :: r => some (vL z) :: (match n with | 0 => [] | n + 1 => none :: enl n r)
  | n + 1, .inl z :: r => some (vI z) :: enl n r
  | n + 1, .inr (.inl q) :: r => some (vR q) :: enl n r
def wd (as : List AV) : Nat := match as with
  | [] => 0
  | .inr (.inr _) :: r => wd r + 2
  | .inl _ :: r => wd r + 1
  | .inr (.inl _) :: r => wd r + 1
theorem lg_wd : ∀ as : List AV, (lg_sl (as.map cv)).length = wd as
  | [] => rfl
  | .inl z :: r => by
    have := lg_wd r
    simp [lg_sl, wd, cv, Value.category] at this ⊢
    omega
  | .inr (.inl 0) :: r => by
    have := lg_wd r
    simp [lg_sl, wd, cv, cR, Value.category] at this ⊢
    omega
  | .inr (.inl (a + 1)) :: r => by
    have := lg_wd r
    simp [lg_sl, wd, cv, cR, Value.category] at this ⊢
    omega
  | .inr (.inr z) :: r => by
    have := lg_wd r
    simp [lg_sl, wd, cv, Value.category] at this ⊢
    omega
theorem enl_nil : ∀ (n i : Nat) (v : AV), (enl n [])[i]? ≠ some (some v)
  | 0, i, v => by simp [enl]
  | n + 1, 0, v => by simp [enl]
  | n + 1, i + 1, v => by simpa [enl] using enl_nil n i v
theorem enl_len : ∀ (n : Nat) (as : List AV), (enl n as).length = n
  | 0, _ => by simp [enl]
  | n + 1, [] => by simp [enl, enl_len n []]
  | n + 1, .inl z :: r => by simp [enl, enl_len n r]
  | n + 1, .inr (.inl q) :: r => by simp [enl, enl_len n r]
  | 1, .inr (.inr z) :: r => by simp [enl]
  | n + 2, .inr (.inr z) :: r => by simp [enl, enl_len n r]
theorem enl_mem : ∀ (n : Nat) (as : List AV) (k i : Nat) (v : AV), (enl n as)[i]? = some (some v) → (k + i, cv v) ∈ lv_args k (as.map cv)
  | 0, _, k, i, v, h => by simp [enl] at h
  | n + 1, [], k, i, v, h => absurd h (enl_nil (n + 1) i v)
  | n + 1, .inl z :: r, k, 0, v, h => by
    simp [enl] at h; subst h
    exact List.mem_cons_self
  | n + 1, .inl z :: r, k, i + 1, v, h => by
    have h1 : (enl n r)[i]? = some (some v) := by simpa [enl] using h
    have := enl_mem n r (k + 1) i v h1
    refine List.mem_cons_of_mem _ ?_
    rw [if_neg (by simp [cv, Value.category])]
    have e : k + (i + 1) = k + 1 + i := by omega
    rw [e]; exact this
  | n + 1, .inr (.inl q) :: r, k, 0, v, h => by
    simp [enl] at h; subst h
    exact List.mem_cons_self
  | n + 1, .inr (.inl q) :: r, k, i + 1, v, h => by
    have h1 : (enl n r)[i]? = some (some v) := by simpa [enl] using h
    have := enl_mem n r (k + 1) i v h1
    refine List.mem_cons_of_mem _ ?_
    rw [if_neg (by cases q <;> simp [cv, cR, Value.category])]
    have e : k + (i + 1) = k + 1 + i := by omega
    rw [e]; exact this
  | n + 1, .inr (.inr z) :: r, k, 0, v, h => by
    have h2 : some (vL z) = some v := by cases n <;> simpa [enl] using h
    cases h2
    exact List.mem_cons_self
  | 1, .inr (.inr z) :: r, k, i + 1, v, h => by simp [enl] at h
  | n + 2, .inr (.inr z) :: r, k, 1, v, h => by simp [enl] at h
  | n + 2, .inr (.inr z) :: r, k, i + 2, v, h => by
    have h1 : (enl n r)[i]? = some (some v) := by simpa [enl] using h
    have := enl_mem n r (k + 2) i v h1
    refine List.mem_cons_of_mem _ ?_
    rw [if_pos (by simp [cv, Value.category])]
    have e : k + (i + 2) = k + 2 + i := by omega
    rw [e]; exact this
theorem us_self (H : Heap) : us H.size H = 0 := by
  unfold us
  rw [List.drop_eq_nil_of_le (by simp)]
  rfl
theorem MP.of {l : Launch} {s0 : State} {i d : Nat} {as : List AV} {h : AH} {Q : AO → AH → Prop} (ml : Nat) (hml : (mi i).2.2.1 = ml) (hpn : plainName (mi i).1.cls = true) (hwd : wd as ≤ ml) (hW : WP l s0 i d 0 (enl ml as) [] h Q) : MP l s0 i d as h Q := by
  subst hml
  refine MetFree.of_bodyS (code := (mi i).2.1) (maxLocals := (mi i).2.2.1) (ret := (mi i).2.2.2.1) hpn ?_ ?_
  · intro args s m h9 hn
    obtain ⟨meth, c, h1, h2, h3, h4, h5, h6, -, -⟩ := cd_spec hn (atoms_spec (ws := [cdC i]) h9 _ List.mem_cons_self)
    exact ⟨meth, c, h1, h2, h3, h4, h5, h6⟩
  · intro p e s m args below meth c s₁ B hml hP _
    obtain ⟨rfl, hG, hWm, hA⟩ := hP
    obtain ⟨meth', c', q1, q2, q3, q4, q5, q6, q7, -⟩ := cd_spec B.named (atoms_spec (ws := [cdC i]) B.pre _ List.mem_cons_self)
    cases B.method.symm.trans q1
    have X0 := Stand.of_body B
    cases X0.code.symm.trans q2
    have hh0 : s₁.heap = s.heap := by rw [B.state]; rfl
    have hC : Cx l s0 i d p s m meth c (headSpec [cdC i] (rm s0 (hN h) (hU h) d)).room := by
      refine ⟨hG, B.exec, B.bytes, hml, B.returns, B.notSynchronized, B.named, (name_of_methodNamed B.named B.method).1, q7, hWm, hA.2.1, hA.2.2.1, ?_⟩
      rw [hA.1, hA.2.2.2.1]
      rfl
    have hl := lv_entry (as.map cv) (n := (mi i).2.2.1) (by rw [lg_wd]; exact hwd)
    have e9 := lg_entry_eq m (as.map cv) (mi i).2.2.1
    generalize (lg_sl (as.map cv) ++ List.replicate ((mi i).2.2.1 - (lg_sl (as.map cv)).length) Slot.unset).toArray = cls at hl e9
    have hA1 : At1 s0 s h s.heap [] cls (enl (mi i).2.2.1 as) := by
      refine ⟨hA, Nat.le_refl _, ?_, ⟨by rw [enl_len]; exact hl.1, hl.2.1, fun j v hv => ?_⟩, fun q hq => by cases hq⟩
      · have : us s.heap.size s.heap = 0 := us_self _
        rw [this]; omega
      · have := hl.2.2 _ (enl_mem _ as 0 j v hv)
        simpa using this
    have K := hW p e s m (as.map cv).toArray below meth c _ s.heap [] cls hC hA1
    have e1 : s.heap.size - s.heap.size = 0 := Nat.sub_self _
    have e2 : us s.heap.size s.heap = 0 := us_self _
    rw [e1, e2] at K
    obtain ⟨t, a1, o, b1, b2, b3⟩ := K s₁ hh0 X0
    refine ⟨t, o, ?_, b1, b2, b3⟩
    rw [e9]
    exact a1
