/-! THE MACHINE's THROWABLES -/
theorem gt_atoms {θ : gc_T} {args : Array Value} {s : State} (hall : ∀ w ∈ lw_all, w.before args s = true) (hz : gc_z θ s) (hag : gc_agree θ s.heap) : ∀ c ∈ Bundle.throwableAtoms, c.before args s = true := by
  have hl := hz.2.2.2.2.2.2.2.1 s.heap hag
  intro c hc
  simp only [Bundle.throwableAtoms, List.mem_cons, List.not_mem_nil, or_false] at hc
  rcases hc with rfl | rfl | rfl | rfl | rfl | rfl | rfl | rfl | rfl | rfl | rfl | rfl | rfl | rfl | rfl | rfl | rfl | rfl | rfl | rfl | rfl | rfl | rfl | rfl
  · exact hall _ q67
  · exact hall _ q129
  · exact hall _ q138
  · exact hall _ q155
  · exact hall _ q158
  · exact hall _ q160
  · exact hall _ q130
  · exact hall _ q131
  · exact hall _ q105
  · exact hall _ q106
  · exact hall _ q132
  · exact hall _ q137
  · exact hall _ q156
  · exact hall _ q175
  · exact hall _ q119
  · exact hall _ q176
  · exact hall _ q121
  · exact hall _ q177
  · exact hall _ q123
  · exact hall _ q133
  · exact hl _ (List.mem_cons_self ..)
  · exact hall _ q135
  · exact hl _ (List.mem_cons_of_mem _ (List.mem_cons_self ..))
  · exact hall _ q125
/-- a class' constructor that passes on to its superclass' -/
theorem gt_passF {θ : gc_T} {args : Array Value} {s : State} {pl : Platform} (hpl : pl.magicAccessors = ({} : Platform).magicAccessors) (hall : ∀ w ∈ lw_all, w.before args s = true) (hz : gc_z θ s) :
    (∃ P : PassC, P.Links0 pl s ∧ s.methodNamed? (Bundle.init0 "BranchMender$Finding") = some P.m ∧ s.methodNamed? (Bundle.init0 "java/lang/RuntimeException") = some P.sup) ∧
    (∃ P : PassC, P.Links0 pl s ∧ s.methodNamed? (Bundle.init0 "java/lang/RuntimeException") = some P.m ∧ s.methodNamed? (Bundle.init0 "java/lang/Exception") = some P.sup) ∧
    (∃ P : PassC, P.Links0 pl s ∧ s.methodNamed? (Bundle.init0 "java/lang/Exception") = some P.m ∧ s.methodNamed? (Bundle.init0 "java/lang/Throwable") = some P.sup) := by
  refine ⟨PassC.of_atoms (args := args) (bytes := cX1_init) (index := 1) hpl (by decide) (by decide) dX1_init_0 dX1_init_1 dX1_init_4 ?_, PassC.of_atoms (args := args) (bytes := prog_30_method_1_code) (index := 1) hpl (by decide) (by decide) (by decide +kernel) (by decide +kernel) (by decide +kernel) ?_, PassC.of_atoms (args := args) (bytes := prog_22_method_1_code) (index := 1) hpl (by decide) (by decide) (by decide +kernel) (by decide +kernel) (by decide +kernel) ?_⟩
  · intro c hc
    simp only [Bundle.passAtoms, List.mem_cons, List.not_mem_nil, or_false] at hc
    rcases hc with rfl | rfl | rfl | rfl | rfl
    · exact hall _ q162
    · exact hall _ q163
    · exact hall _ q164
    · exact hall _ q165
    · exact va_Nw.use rfl (hz.2.1 _ q110 rfl)
  · intro c hc
    simp only [Bundle.passAtoms, List.mem_cons, List.not_mem_nil, or_false] at hc
    rcases hc with rfl | rfl | rfl | rfl | rfl
    · exact hall _ q165
    · exact hall _ q166
    · exact hall _ q167
    · exact hall _ q168
    · exact va_Nw.use rfl (hz.2.1 _ q112 rfl)
  · intro c hc
    simp only [Bundle.passAtoms, List.mem_cons, List.not_mem_nil, or_false] at hc
    rcases hc with rfl | rfl | rfl | rfl | rfl
    · exact hall _ q168
    · exact hall _ q169
    · exact hall _ q170
    · exact hall _ q130
    · exact va_Nw.use rfl (hz.2.1 _ q114 rfl)
/-- the cell of Throwable's statics -/
theorem gt_stat {θ : gc_T} {s : State} {H : Heap} {pl : Platform} {T : ThrowableC} {Z : Init0T} (hz : gc_z θ s) (hag : gc_agree θ H) (L : T.Links pl s) (Y : Bundle.Ties T Z s) :
    ∃ cellS : Cell, H[T.aS]? = some cellS ∧ cellS.vm ≠ .unknown ∧ cellS.slots[T.fUnassigned.slot]? = some (va_rf (gc_aU θ)) ∧ cellS.slots[T.fSentinel.slot]? = some (va_rf (gc_aS θ)) ∧ ¬ gc_A θ T.aS := by
  obtain ⟨-, -, ⟨c1, k1, i1, f1, a1, cell1, h1, -, -, h2, h3, h4, h5, h6⟩, ⟨c2, k2, i2, f2, a2, cell2, g1, -, -, g2, g3, -, g5, -⟩, -⟩ := hz.2.2.2.1 H hag
  have e1 := Option.some.inj (h1.symm.trans Y.unassigned)
  have e2 := Option.some.inj (g1.symm.trans Y.sentinel)
  simp only [Prod.mk.injEq] at e1 e2
  obtain ⟨-, rfl, -, rfl⟩ := e1
  obtain ⟨-, rfl, -, rfl⟩ := e2
  have ea : a1 = T.aS := Option.some.inj (h2.symm.trans L.statics)
  have eb : a2 = T.aS := Option.some.inj (g2.symm.trans L.statics)
  subst ea
  subst eb
  cases h3.symm.trans g3
  exact ⟨cell1, h3, (fun e => by rw [e] at h4; cases h4), h5, g5, h6⟩
theorem gt_sel {args : Array Value} {s : State} {e : Env} {C : String} {c : ClassId} {x y : MethodName} {r m : MethodId} (hsel : (Cond.selects C x y).before args s = true) (hC : s.vm.findClass C = some c) (hx : s.methodNamed? x = some r) (hxi : x.cls ≠ "java/lang/invoke/MethodHandle" ∧ x.cls ≠ "java/lang/invoke/VarHandle") (hy : s.methodNamed? y = some m) (hpl : selectMethod e.platform s.vm c r = selectMethod ({} : Platform) s.vm c r) :
    selectMethod e.platform s.vm c r = .method m := by
  obtain ⟨c2, r2, m2, h1, h2, h3, h4, -⟩ := Cond.selects_spec hsel
  cases Option.some.inj (h1.symm.trans hC)
  cases Option.some.inj (h2.symm.trans (State.methodFound?_of_named hx hxi))
  cases Option.some.inj (h3.symm.trans hy)
  rw [hpl]; exact h4
theorem gc_push2 {θ : gc_T} {σ σ' : gc_S} {a : Nat} (ha : a ∉ gc_d σ) (hd : gc_d σ' = gc_d σ ++ [a]) (he : ∀ b, b ≠ a → gc_e θ σ b = gc_e θ σ' b) : gc_ws θ σ ++ [(a, gc_e θ σ' a)] = gc_ws θ σ' := by
  rw [va_pl_push ha]
  show va_pl _ _ = va_pl (gc_d σ') (gc_e θ σ')
  rw [hd]
  refine va_pl_congr fun b => ?_
  by_cases hb : b = a
  · subst hb
    rw [va_up_self]
  · rw [va_up_ne _ _ hb]
    exact he b hb
def gt_rf (r : Option Nat) : RefV := ⟨va_rf r, by cases r <;> rfl⟩
section GCT
variable {θ : gc_T} {K : gx_K} {M : gx_M} {Post : Outcome → gc_S → Prop} {pc : Nat} {L : List (Nat × Value)} {st : List Value} {σ : gc_S} {bc bs : Nat} {a : Nat}
set_option maxHeartbeats 1000000 in
/-- 'new Finding()', whole: its class' constructors, up to Throwable's -/
theorem gc_newF (h : gc_K θ K M) {own host : String} {i1 i2 : Nat} (hc : (gx_My M).cls = own) (q1 : Cond.classLink own i1 "BranchMender$Finding" ∈ lw_all) (q2 : Cond.methodLinkNest own i2 ⟨"BranchMender$Finding", "<init>", "()V"⟩ host ∈ lw_tbl) (hR : 6 ≤ (gx_Mm M).frames ∧ 200 ≤ (gx_Mm M).locals) (hst : (st.map fun v => v.category).sum ≤ 8)
    (d1 : decode (gx_Mc M) pc = .ok (.new i1, 3)) (d2 : decode (gx_Mc M) (pc + 3) = .ok (.dup, 1)) (d3 : decode (gx_Mc M) (pc + 3 + 1) = .ok (.invokespecial i2, 3)) (hbc : 1 ≤ bc) (hbs : 7 ≤ bs)
    (kk : ∀ q, q ∉ gc_d σ → gc_A θ q → ∀ r1 r2, gc_G θ K M Post (pc + 3 + 1 + 3) L (.ref q :: st) (gc_sR (gc_sR (gc_sR (gc_new σ q 1 0) 100 q (some q)) 101 q r1) 102 q r2) (bc - 1) (bs - 7)) : gc_G θ K M Post pc L st σ bc bs := by
  intro H locs ls cells slots hL hw hS e1 e2
  have hRM := h.2.2.2.2.2.2.2.2.1
  have hz := h.2.2.2.2.2.2.2.1
  have hall := h.2.2.2.2.1
  have hag0 : gc_agree θ (gx_s K).heap := gc_same h
  obtain ⟨hSl, hCl⟩ := hz.1.1 1 (RX1, TX1, 7) rfl
  refine W.newcK h.1 h.2.1 (hc ▸ h.2.2.2.1) (hall _ q1) (hall _ q108) (hall _ q70) rfl d1 (by rw [hRM]; omega) (by rw [hRM]; omega) hCl.1 rfl fun H1 kC hkC x1 z1 o1 => ?_
  refine lv_dup h.1 h.2.1 d2 rfl ?_
  intro T hT X
  have howns : (gx_e K).platform.frameOwnsMonitors = true := by rw [X.admits.platform]
  have hfin : (gx_e K).platform.finalization = false := by rw [X.admits.platform]
  have hpl : (gx_e K).platform.magicAccessors = ({} : Platform).magicAccessors := by rw [X.admits.platform]
  obtain ⟨Th, Z, TL, LZ, Y⟩ := ThrowableC.of_atoms (args := gx_a K) howns hfin hpl (gt_atoms hall hz hag0)
  obtain ⟨⟨P1, L1, hm1, hs1⟩, ⟨P2, L2, hm2, hs2⟩, ⟨P3, L3, hm3, hs3⟩⟩ := gt_passF (args := gx_a K) hpl hall hz
  have l12 : P1.sup = P2.m := Option.some.inj (hs1.symm.trans hm2)
  have l23 : P2.sup = P3.m := Option.some.inj (hs2.symm.trans hm3)
  have l3 : P3.sup = Z.m Th.toThrowableT := Option.some.inj (hs3.symm.trans Y.init0)
  obtain ⟨tm, mth, cd, kd, vm', g1, g2, g3, g4, g5, g6, g7, g8, hW', st1⟩ := Steps.initColdArgsNest (tb := (gx_p K).tables) (e := gx_e K) (below := gx_b K) (s := gx_s K) (U := T) (mm := gx_m K) (cc := gx_c K) X.here h.1 X.warmed hpl (own := (gx_My M).cls) (host := host) h.2.2.2.1 (idx := i2) (t := ⟨"BranchMender$Finding", "<init>", "()V"⟩) rfl (by decide) (args := gx_a K) (bytes := cX1_init) (maxL := 1)
    (va_Nw.use rfl (hz.2.1 _ (hc ▸ q2) rfl)) (hall _ q162) (hall _ q163) (f := F0 (gx_m K) (pc + 3 + 1) ls (.ref H.size :: .ref H.size :: st)) rfl (a := H.size) (argsL := []) (rest := .ref H.size :: st) (fun sig hs => by cases hs; rfl) rfl (by rw [h.2.1]; exact d3)
  have etm : tm = P1.m := Option.some.inj (g1.symm.trans hm1)
  subst etm
  have X1 := X.noted hW'
  have hT1 : (T.setVm vm').heap = H1 := hT
  have hHs : H.size < H1.size := by omega
  have hag1 : gc_agree θ H1 := ⟨Nat.le_trans hw.2.2.2.2.1 (by omega), fun q hq => by rw [o1 q (Nat.lt_of_lt_of_le hq hw.2.2.2.2.1)]; exact hw.2.2.2.2.2 q hq⟩
  obtain ⟨cellS, hcS, hkS, hvU, hvS, hnA⟩ := gt_stat (H := H1) hz hag1 TL Y
  have hA : gc_A θ H.size := hw.2.2.1 _ (Nat.le_refl _)
  have hneS : Th.aS ≠ H.size := fun q => hnA (q ▸ hA)
  have hord : kC.kind = .ordinary := by
    obtain ⟨kC', hk', hk2⟩ := hCl.2
    cases hkC.symm.trans hk'
    exact hk2
  have hsel0 : selectMethod (gx_e K).platform (gx_s K).vm ((gc_D θ).1 1) Th.fill0 = .method Th.fill0 := gt_sel (hall _ q116) hCl.1 Y.fill0 (by decide) Y.fill0 (Launch.admits_selectMethod X.admits ..)
  have hselF : selectMethod (gx_e K).platform (gx_s K).vm ((gc_D θ).1 1) Th.fill = .method Th.fill := gt_sel (hall _ q117) hCl.1 Y.fill (by decide) Y.fill (Launch.admits_selectMethod X.admits ..)
  obtain ⟨tyC, dC, hdC, hdnC⟩ := Cond.laysAt hCl.1 hkC Y.cause (hall _ q118)
  obtain ⟨tyS, dS, hdS, hdnS⟩ := Cond.laysAt hCl.1 hkC Y.stack (hall _ q120)
  obtain ⟨tyP, dP, hdP, hdnP⟩ := Cond.laysAt hCl.1 hkC Y.supp (hall _ q122)
  obtain ⟨ci198, i198, fB, hk198, hg198, ha198, hsB, -, hnB, htB, hffB⟩ := Cond.ownField (t := .object "java/lang/Object") Y.found TL.cls (by decide +kernel) (hall _ q173) (hall _ q127) (gx_e K).platform hpl
  obtain ⟨tyB, dB, hdB, hdnB⟩ := Cond.laysAt hCl.1 hkC hffB (hall _ q126)
  have bC := Cond.laysApart hdB hdC hdnB hdnC (by rw [hnB, Y.causeName]; decide)
  have bS := Cond.laysApart hdB hdS hdnB hdnS (by rw [hnB, Y.stackName]; decide)
  have bP := Cond.laysApart hdB hdP hdnB hdnP (by rw [hnB, Y.suppName]; decide)
  have hskip : SkipFacts Th (gx_e K).platform (gx_s K) (fun u => u) (gt_rf (gc_aU θ)) ((preparedCellV Th.toThrowableT (freshCell ((gc_D θ).1 1) kC) H.size (gt_rf (gc_aU θ)) (gt_rf (gc_aS θ))).withEntry (T.setVm vm').cur) :=
    ⟨{ ci198 := ci198, i198 := i198, fBack := fB }, ⟨hk198, hg198, ha198, hsB⟩, by
      have := fresh_default (c := (gc_D θ).1 1) tyB
      rw [htB] at this
      simpa [preparedCellV, Cell.setSlot, Cell.withEntry, Array.getElem?_setIfInBounds, bC, bS, bP, bC.symm, bS.symm, bP.symm, defaultValue] using this, fun _ _ => rfl⟩
  have htr : (gx_e K).platform.stackTraces = false := by rw [X.admits.platform]; exact hz.2.2.2.2.2.2.1
  obtain ⟨vm2, X2, st2⟩ := X1.ctorPlainColdBareV h.1 (g := F0 (gx_m K) (pc + 3 + 1) ls (.ref H.size :: st)) rfl (hL.1.trans h.2.2.1.symm) Th TL Z LZ [P1, P2, P3] (fun P hP => by
      simp only [List.mem_cons, List.not_mem_nil, or_false] at hP
      rcases hP with rfl | rfl | rfl
      · exact L1
      · exact L2
      · exact L3) ⟨l12, l23, l3, trivial⟩ (u0 := gt_rf (gc_aU θ)) (sen := gt_rf (gc_aS θ)) (self := H.size) (cell := freshCell ((gc_D θ).1 1) kC) (cellS := cellS) (by rw [hT1]; exact x1) (fun k q => by cases q) (fun q => by cases q) rfl rfl hsel0 hselF (by rw [hT1]; exact hcS) hneS hkS hvU hvS
    (Takes.of_laid hkC hord tyC (by rw [Y.causeType]; rfl)) (Takes.of_laid hkC hord tyS (by rw [Y.stackType]; exact fits_refV_array _ _)) (Takes.of_laid hkC hord tyP (by rw [Y.suppType]; exact fits_refV_object _ _)) Y.objLocals hskip
    (fun _ _ hA hW _ hroom _ hrest => TL.nativeOff _ htr hA hW hroom hrest) (ig := .invokespecial i2) (len := 3) [] (by rw [h.2.1]; exact d3) (by show 3 + 2 < _; rw [hRM]; omega) (by show 2 * 0 + ((Value.ref H.size :: st).map fun v => v.category).sum + (13 * 3 + 41) ≤ _; rw [hRM, List.map_cons, List.sum_cons]; have : (Value.ref H.size).category = 1 := rfl; omega)
  have s0 : Th.fCause.slot = (gc_D θ).2 1 0 := by
    obtain ⟨_, _, _, f, hf, hs⟩ := hSl 0 (by decide)
    have := Option.some.inj (hf.symm.trans Y.cause)
    simp only [Prod.mk.injEq] at this
    rw [← this.2.2.2]; exact hs
  have s1 : Th.fStack.slot = (gc_D θ).2 1 1 := by
    obtain ⟨_, _, _, f, hf, hs⟩ := hSl 1 (by decide)
    have := Option.some.inj (hf.symm.trans Y.stack)
    simp only [Prod.mk.injEq] at this
    rw [← this.2.2.2]; exact hs
  have s2 : Th.fSupp.slot = (gc_D θ).2 1 2 := by
    obtain ⟨_, _, _, f, hf, hs⟩ := hSl 2 (by decide)
    have := Option.some.inj (hf.symm.trans Y.supp)
    simp only [Prod.mk.injEq] at this
    rw [← this.2.2.2]; exact hs
  obtain ⟨cell0, c1, c2, c3, c4⟩ := u_born tyX1 hall in_X1 ⟨hSl, hCl⟩ hkC x1 tyX1_ok
  have ec : cell0 = freshCell ((gc_D θ).1 1) kC := Option.some.inj (c1.symm.trans x1)
  subst ec
  have hap := va_apart (own := own) hall in_X1 tyX1 tyX1_ok nmX1 hz.1 (ci := 1) rfl
  have sl := t_set (t_set (t_set (t_set c4 hap (k := 0) (by decide) (.ref H.size)) hap (k := 1) (by decide) (gt_rf (gc_aU θ)).v) hap (k := 2) (by decide) (gt_rf (gc_aS θ)).v) hap (k := 1) (by decide) (gt_rf (gc_aU θ)).v
  simp only [preparedCellV, s0, s1, s2] at X2 st2
  generalize hcell2 : ((((freshCell ((gc_D θ).1 1) kC).setSlot ((gc_D θ).2 1 0) (.ref H.size)).setSlot ((gc_D θ).2 1 1) (gt_rf (gc_aU θ)).v).setSlot ((gc_D θ).2 1 2) (gt_rf (gc_aS θ)).v).setSlot ((gc_D θ).2 1 1) (gt_rf (gc_aU θ)).v = cell2 at X2 st2 sl
  have hk2 : cell2.cls = (gc_D θ).1 1 ∧ cell2.vm = .none := by rw [← hcell2]; exact ⟨rfl, rfl⟩
  have hfr : H.size ∉ gc_d σ := fun z => by
    obtain ⟨x, hx⟩ := gc_at (θ := θ) z
    exact absurd ((hw.1 x _ hx).lt) (Nat.lt_irrefl _)
  generalize hU2 : (((T.setVm vm').setVm vm2).setCell H.size cell2) = U2 at X2 st2
  have y1 : U2.heap[H.size]? = some cell2 := by rw [← hU2]; exact heapAt_setCell_self _ (by show H.size < T.heap.size; rw [hT]; omega)
  have y2 : U2.heap.size = H.size + 1 := by rw [← hU2, size_setCell]; show T.heap.size = _; rw [hT]; omega
  have y3 : ∀ q, q < H.size → U2.heap[q]? = H[q]? := fun q hq => by rw [← hU2, heapAt_setCell_ne _ (Nat.ne_of_gt hq)]; show T.heap[q]? = _; rw [hT]; exact o1 q hq
  have hobk : ∀ (k : Nat) (x : Nat × va_E), (gc_ws θ σ)[k]? = some x → U2.heap[x.1]? = H[x.1]? := fun k x hx => y3 x.1 ((hw.1 k x hx).lt)
  have hS2 : va_S (gc_A θ) (gx_s K).heap U2.heap (locs ++ [⟨H.size, (gc_D θ).2 1 0⟩, ⟨H.size, (gc_D θ).2 1 1⟩, ⟨H.size, (gc_D θ).2 1 2⟩, ⟨H.size, (gc_D θ).2 1 1⟩]) := by
    refine ⟨Nat.le_trans hS.1 (by omega), fun x h1 h2 => (y3 x (Nat.lt_of_lt_of_le h1 hS.1)).trans (hS.2.1 x h1 h2), fun l hl => ?_⟩
    rcases List.mem_append.mp hl with hl | hl
    · exact hS.2.2 l hl
    · simp only [List.mem_cons, List.not_mem_nil, or_false] at hl
      rcases hl with rfl | rfl | rfl | rfl <;> exact hA
  have hw2 : gc_w θ (gc_sR (gc_sR (gc_sR (gc_new σ H.size 1 0) 100 H.size (some H.size)) 101 H.size (gc_aU θ)) 102 H.size (gc_aS θ)) U2.heap := by
    have hws := gc_push2 (θ := θ) (σ := σ) (σ' := gc_sR (gc_sR (gc_sR (gc_new σ H.size 1 0) 100 H.size (some H.size)) 101 H.size (gc_aU θ)) 102 H.size (gc_aS θ)) hfr rfl (fun b hb => gc_e_congr (va_up_ne _ _ hb) (va_up_ne _ _ hb) (va_up_ne _ _ hb) (va_up_ne _ _ hb) (fun _ => if_neg hb) (fun f => by
      show (if f = 102 ∧ b = H.size then gc_aS θ else if f = 101 ∧ b = H.size then gc_aU θ else if f = 100 ∧ b = H.size then some H.size else if b = H.size then none else gc_R σ f b) = _
      simp [hb]))
    rw [gc_e_obj (k := 1) (va_up_self _ _ _) (by decide)] at hws
    refine gc_to h hws ((hw.1.kept hobk).app (fun k x hx => ?_)) (hw.2.1.push hw.1 rfl hA) hS2
    have hz1 : k < 1 := (List.getElem?_eq_some_iff.mp hx).1
    rw [show k = 0 by omega] at hx
    cases hx
    refine ⟨_, rfl, cell2, y1, hk2.1, hk2.2, fun j hj => ?_⟩
    rw [sl j hj]
    have hv : vp_V (gc_fs (gc_sR (gc_sR (gc_sR (gc_new σ H.size 1 0) 100 H.size (some H.size)) 101 H.size (gc_aU θ)) 102 H.size (gc_aS θ)) H.size 1) j = gc_v (gc_sR (gc_sR (gc_sR (gc_new σ H.size 1 0) 100 H.size (some H.size)) 101 H.size (gc_aU θ)) 102 H.size (gc_aS θ)) H.size (100 + j) := by
      unfold vp_V
      rw [List.getD_eq_getElem?_getD, gc_fs_get _ _ (show j < gc_N 1 from hj)]
      rfl
    rw [hv]
    rcases (show j = 0 ∨ j = 1 ∨ j = 2 ∨ j = 3 ∨ j = 4 ∨ j = 5 ∨ j = 6 by have : j < 7 := hj; omega) with rfl | rfl | rfl | rfl | rfl | rfl | rfl
    · rw [gc_vR (by rfl)]; simp [rd_R_sR, rd_R_new, updV, va_rf]
    · rw [gc_vR (by rfl)]; simp [rd_R_sR, rd_R_new, updV, gt_rf]
    · rw [gc_vR (by rfl)]; simp [rd_R_sR, rd_R_new, updV, gt_rf]
    · rw [gc_vR (by rfl)]; simp [rd_R_sR, rd_R_new, updV, va_rf, tyX1, defaultValue]
    · rw [gc_vR (by rfl)]; simp [rd_R_sR, rd_R_new, updV, va_rf, tyX1, defaultValue]
    · rw [gc_vI (by rfl)]; simp [rd_I_sR, rd_I_new, updV, tyX1, defaultValue]
    · rw [gc_vI (by rfl)]; simp [rd_I_sR, rd_I_new, updV, tyX1, defaultValue]
  obtain ⟨t, a1, b1⟩ := kk H.size hfr hA (gc_aU θ) (gc_aS θ) U2.heap _ ls (cells + 1) (slots + 7) hL hw2 hS2 (by omega) (by omega) U2 rfl X2
  refine ⟨t, st1 t (fun acts => ?_), b1⟩
  rw [doInvoke_state]
  exact st2 t a1
end GCT
