/-! null met and a place beyond an array, caught in the method -/
theorem gt_npeW {θ : gc_T} {args : Array Value} {s : State} (hall : ∀ w ∈ lw_all, w.before args s = true) (hz : gc_z θ s) : ∀ c ∈ Bundle.npeAtoms, c.before args s = true := by
  intro c hc
  simp only [Bundle.npeAtoms, List.mem_cons, List.not_mem_nil, or_false] at hc
  rcases hc with rfl | rfl | rfl | rfl | rfl | rfl | rfl | rfl
  · exact hall _ q152
  · exact hall _ q142
  · exact hall _ q143
  · exact hall _ q778
  · exact hall _ q780
  · exact hall _ q149
  · exact hall _ q150
  · exact va_Nw.use rfl (hz.2.1 _ q792 rfl)
theorem gt_passN {θ : gc_T} {args : Array Value} {s : State} {pl : Platform} (hpl : pl.magicAccessors = ({} : Platform).magicAccessors) (hall : ∀ w ∈ lw_all, w.before args s = true) (hz : gc_z θ s) :
    ∃ P : PassC, P.Links0 pl s ∧ s.methodNamed? (Bundle.init0 "java/lang/NullPointerException") = some P.m ∧ s.methodNamed? (Bundle.init0 "java/lang/RuntimeException") = some P.sup := by
  refine PassC.of_atoms (args := args) (bytes := prog_28_method_1_code) (index := 1) hpl (by decide) (by decide) (by decide +kernel) (by decide +kernel) (by decide +kernel) ?_
  intro c hc
  simp only [Bundle.passAtoms, List.mem_cons, List.not_mem_nil, or_false] at hc
  rcases hc with rfl | rfl | rfl | rfl | rfl
  · exact hall _ q775
  · exact hall _ q776
  · exact hall _ q777
  · exact hall _ q165
  · exact va_Nw.use rfl (hz.2.1 _ q110 rfl)
set_option maxHeartbeats 1000000 in
theorem gt_npe {θ : gc_T} {K : gx_K} {M : gx_M} {T : State} {locs : List Loc} {cells slots pc : Nat} {ls : Array Slot} {st : List Value} (h : gc_K θ K M) (X : Stand (gx_p K) (gx_l (gc_O θ)) (gx_e K) (gx_R K) (gx_s K) (gx_m K) (gx_a K) (gx_b K) (gx_t K) (gx_c K) T locs cells slots) (hag : gc_agree θ T.heap) (hls : ls.size = gx_Mn M)
    (hRf : 7 < (gx_Mm M).frames) (hRl : (st.map fun v => v.category).sum + 10240 ≤ (gx_Mm M).locals) (hRc : cells + 1 ≤ (gx_Mm M).cells) (hRs : slots + 8 ≤ (gx_Mm M).slots) :
    ∃ (U : State) (L5 : List Loc) (cell : Cell), Stand (gx_p K) (gx_l (gc_O θ)) (gx_e K) (gx_R K) (gx_s K) (gx_m K) (gx_a K) (gx_b K) (gx_t K) (gx_c K) U (locs ++ L5) (cells + 1) (slots + 8) ∧ (∀ l ∈ L5, l.base = T.heap.size) ∧ U.heap.size = T.heap.size + 1 ∧ (∀ q, q < T.heap.size → U.heap[q]? = T.heap[q]?) ∧
      U.heap[T.heap.size]? = some cell ∧ cell.vm.isStatics = false ∧ (gx_s K).vm.findClass "java/lang/NullPointerException" = some cell.cls ∧
      ∀ target, Steps (gx_p K).tables (gx_e K) (gx_b K) ((U.setTop (F0 (gx_m K) pc ls st)).pushFrame (.throwing T.heap.size)) target → Steps (gx_p K).tables (gx_e K) (gx_b K) ((T.setTop (F0 (gx_m K) pc ls st)).pushFrame (.throwNew "java/lang/NullPointerException" none none)) target := by
  have hRM := h.2.2.2.2.2.2.2.2.1
  have hz := h.2.2.2.2.2.2.2.1
  have hall := h.2.2.2.2.1
  have howns : (gx_e K).platform.frameOwnsMonitors = true := by rw [X.admits.platform]
  have hfin : (gx_e K).platform.finalization = false := by rw [X.admits.platform]
  have hpl : (gx_e K).platform.magicAccessors = ({} : Platform).magicAccessors := by rw [X.admits.platform]
  have hpl2 : (gx_e K).platform.arrayCloneIsPublic = true := by rw [X.admits.platform]
  have htr : (gx_e K).platform.stackTraces = false := by rw [X.admits.platform]; exact hz.2.2.2.2.2.2.1
  obtain ⟨Th, Z, TL, LZ, Y⟩ := ThrowableC.of_atoms (args := gx_a K) howns hfin hpl (gt_atoms hall hz (gc_same h))
  obtain ⟨N, LN, hcN, hnNF, hordN, hffS⟩ := NpeC.of_atoms (args := gx_a K) hpl hpl2 TL Y (gt_npeW hall hz)
  obtain ⟨P1, L1, hm1, hs1⟩ := gt_passN (args := gx_a K) hpl hall hz
  obtain ⟨-, ⟨P2, L2, hm2, hs2⟩, ⟨P3, L3, hm3, hs3⟩⟩ := gt_passF (args := gx_a K) hpl hall hz
  have l12 : P1.sup = P2.m := Option.some.inj (hs1.symm.trans hm2)
  have l23 : P2.sup = P3.m := Option.some.inj (hs2.symm.trans hm3)
  have l3 : P3.sup = Z.m Th.toThrowableT := Option.some.inj (hs3.symm.trans Y.init0)
  have hfound : (gx_s K).vm.findClass "java/lang/NullPointerException" = some P1.m.cls := findClass_of_methodNamed hm1
  have ecls : N.cN = P1.m.cls := Option.some.inj (hcN.symm.trans hfound)
  have hk : (gx_s K).vm.classes[P1.m.cls]? = some N.kN := by rw [← ecls]; exact LN.cls
  have hinit := Cond.initialized_spec hfound hk (hall _ q95)
  have hctor : N.kN.findMethod "<init>" "()V" = some P1.m.idx := findMethod_of_methodNamed hm1 hk
  obtain ⟨c1, k1, hc1, hk1, -, -, -, hn⟩ := Cond.instantiable_spec (hall _ q147)
  cases Option.some.inj (hc1.symm.trans hfound)
  cases Option.some.inj (hk1.symm.trans hk)
  have hsel0 : selectMethod (gx_e K).platform (gx_s K).vm P1.m.cls Th.fill0 = .method Th.fill0 := gt_sel (hall _ q791) hfound Y.fill0 (by decide) Y.fill0 (Launch.admits_selectMethod X.admits ..)
  have hselF : selectMethod (gx_e K).platform (gx_s K).vm P1.m.cls Th.fill = .method N.fill := gt_sel (hall _ q141) hfound Y.fill (by decide) hnNF (Launch.admits_selectMethod X.admits ..)
  obtain ⟨cellS, hcS, hkS, hvU, hvS, hnA⟩ := gt_stat hz hag TL Y
  obtain ⟨tyC, dC, hdC, hdnC⟩ := Cond.laysAt hfound hk Y.cause (hall _ q786)
  obtain ⟨tyS, dS, hdS, hdnS⟩ := Cond.laysAt hfound hk Y.stack (hall _ q787)
  obtain ⟨tyP, dP, hdP, hdnP⟩ := Cond.laysAt hfound hk Y.supp (hall _ q789)
  obtain ⟨tyX, dX, hdX, hdnX⟩ := Cond.laysAt hfound hk hffS (hall _ q780)
  have hnX : N.fState.name = "extendedMessageState" := (State.fieldFound?_type hffS (t := .int) (by decide +kernel)).1
  obtain ⟨ci198, i198, fB, hk198, hg198, ha198, hsB, -, hnB, htB, hffB⟩ := Cond.ownField (t := .object "java/lang/Object") Y.found TL.cls (by decide +kernel) (hall _ q173) (hall _ q127) (gx_e K).platform hpl
  obtain ⟨tyB, dB, hdB, hdnB⟩ := Cond.laysAt hfound hk hffB (hall _ q784)
  have bC := Cond.laysApart hdB hdC hdnB hdnC (by rw [hnB, Y.causeName]; decide)
  have bS := Cond.laysApart hdB hdS hdnB hdnS (by rw [hnB, Y.stackName]; decide)
  have bP := Cond.laysApart hdB hdP hdnB hdnP (by rw [hnB, Y.suppName]; decide)
  have bX := Cond.laysApart hdB hdX hdnB hdnX (by rw [hnB, hnX]; decide)
  have hskip : SkipFacts Th (gx_e K).platform (gx_s K) (fun u => u) (gt_rf (gc_aU θ)) ((npeCell N.toNpeT (preparedCellV Th.toThrowableT (freshCell P1.m.cls N.kN) T.heap.size (gt_rf (gc_aU θ)) (gt_rf (gc_aS θ))) T.cur).withEntry T.cur) :=
    ⟨{ ci198 := ci198, i198 := i198, fBack := fB }, ⟨hk198, hg198, ha198, hsB⟩, by
      have := fresh_default (c := P1.m.cls) tyB
      rw [htB] at this
      simpa [npeCell, preparedCellV, Cell.setSlot, Cell.withEntry, Array.getElem?_setIfInBounds, bC, bS, bP, bX, bC.symm, bS.symm, bP.symm, bX.symm, defaultValue] using this, fun _ _ => rfl⟩
  have hsz : (F0 (gx_m K) pc ls st).locals.size = (gx_c K).maxLocals := hls.trans h.2.2.1.symm
  obtain ⟨hbeyond, hfreeW⟩ := X.vmMayThrow hsz (.throwNew "java/lang/NullPointerException" none none) (fun f hf => by cases hf) rfl (by show 2 * 0 + _ + 10240 ≤ _; rw [hRM]; show 2 * 0 + (st.map fun v => v.category).sum + 10240 ≤ _; omega)
  have hfr' := X.framesAbove (n := 7) (by rw [hRM]; omega)
  have hwd' := X.stackAbove hsz (K := 94) (by show 2 * 0 + (st.map fun v => v.category).sum + 94 ≤ _; rw [hRM]; omega)
  obtain ⟨vm', hW', stp⟩ := Steps.vmThrowsNpeColdByV (gx_p K) (s₀ := gx_s K) (S := T) (g := F0 (gx_m K) pc ls st) X.here h.1 Th TL Z LZ N LN X.warmed (t := T.cur) rfl P1 L1 [P2, P3] (fun P hP => by
      simp only [List.mem_cons, List.not_mem_nil, or_false] at hP
      rcases hP with rfl | rfl
      · exact L2
      · exact L3) l12 ⟨l23, l3, trivial⟩ hfound hk hinit hordN hctor
    (Launch.admits_hotImplicitExceptions X.admits) hbeyond hfreeW (X.cellsAbove (by rw [hRM]; exact hRc)) (X.slotsAbove (by rw [hRM, hn]; exact hRs))
    (Nn := fun u => u) heapOnly_id (fun _ _ => rfl) (fun _ => rfl) (fun u x y => setCell_twice _ _ _ _) (fun _ => Nat.le_refl _) (u0 := gt_rf (gc_aU θ)) (sen := gt_rf (gc_aS θ)) (cellS := cellS) (cN := ((npeCell N.toNpeT (preparedCellV Th.toThrowableT (freshCell P1.m.cls N.kN) T.heap.size (gt_rf (gc_aU θ)) (gt_rf (gc_aS θ))) T.cur).withEntry T.cur))
    hsel0 hcS hkS hvU (by rw [fresh_default tyX, LN.stateInt]; rfl)
    (Cond.laysApart hdC hdX hdnC hdnX (by rw [Y.causeName, hnX]; decide)) (Cond.laysApart hdS hdX hdnS hdnX (by rw [Y.stackName, hnX]; decide)) (Cond.laysApart hdP hdX hdnP hdnX (by rw [Y.suppName, hnX]; decide))
    (Takes.of_laid hk hordN tyS (by rw [Y.stackType]; exact fits_refV_array _ _)) (Takes.of_laid hk hordN tyX (by rw [LN.stateInt]; rfl)) (fun _ hu => hu) (fun _ hu => hu) rfl rfl rfl (by simp [npeCell, preparedCellV, Cell.setSlot, Cell.withEntry]) hskip
    (fun _ _ hA hW _ hroom _ hrest => TL.nativeOff _ htr hA hW hroom hrest) hselF hvS (Takes.of_laid hk hordN tyC (by rw [Y.causeType]; rfl)) (Takes.of_laid hk hordN tyP (by rw [Y.suppType]; exact fits_refV_object _ _)) Y.objLocals rfl (by show _ + 2 + 5 < _; omega) (by show _ + 13 * 2 + 68 ≤ _; omega)
  rw [npeBareV_eq Th.toThrowableT N.toNpeT T.heap.size (gt_rf (gc_aU θ)) (gt_rf (gc_aS θ)) T.cur rfl rfl] at stp
  have hs8 : (freshCell P1.m.cls N.kN).slots.size = 8 := by simp [hn]
  have X2 := (X.pushed (freshCell P1.m.cls N.kN)).noted hW'
  rw [hs8] at X2
  have hszU : ((T.pushCell (freshCell P1.m.cls N.kN)).setVm vm').heap.size = T.heap.size + 1 := State.heap_size_pushCell _ _
  have ha : T.heap.size < ((T.pushCell (freshCell P1.m.cls N.kN)).setVm vm').heap.size := by rw [hszU]; omega
  have hcell : ((T.pushCell (freshCell P1.m.cls N.kN)).setVm vm').heap[T.heap.size]? = some (freshCell P1.m.cls N.kN) := State.heap_pushCell_size T (freshCell P1.m.cls N.kN)
  have X3 := ((((X2.stored hcell Th.fCause.slot (.ref T.heap.size)).storedAgain ha Th.fStack.slot (gt_rf (gc_aU θ)).v).storedAgain ha Th.fSupp.slot (gt_rf (gc_aS θ)).v).storedAgain ha N.fState.slot (.int 1)).storedAgain ha Th.fStack.slot (gt_rf (gc_aU θ)).v
  refine ⟨((T.pushCell (freshCell P1.m.cls N.kN)).setVm vm').setCell T.heap.size (npeBareV Th.toThrowableT N.toNpeT (freshCell P1.m.cls N.kN) T.heap.size (gt_rf (gc_aU θ)) (gt_rf (gc_aS θ))), [⟨T.heap.size, Th.fCause.slot⟩, ⟨T.heap.size, Th.fStack.slot⟩, ⟨T.heap.size, Th.fSupp.slot⟩, ⟨T.heap.size, N.fState.slot⟩, ⟨T.heap.size, Th.fStack.slot⟩], npeBareV Th.toThrowableT N.toNpeT (freshCell P1.m.cls N.kN) T.heap.size (gt_rf (gc_aU θ)) (gt_rf (gc_aS θ)), ?_, ?_, ?_, ?_, heapAt_setCell_self _ ha, rfl, hfound, ?_⟩
  · simpa only [List.append_assoc, List.cons_append, List.nil_append] using X3
  · intro l hl
    simp only [List.mem_cons, List.not_mem_nil, or_false] at hl
    rcases hl with rfl | rfl | rfl | rfl | rfl <;> rfl
  · rw [size_setCell]; exact hszU
  · intro q hq
    rw [heapAt_setCell_ne _ (Nat.ne_of_gt hq)]
    exact State.heap_pushCell_of_lt T _ hq
  · intro target hrest
    refine stp target ?_
    obtain ⟨g₁, hfrM⟩ := X3.frames_eq
    have hU : ((((T.pushCell (freshCell P1.m.cls N.kN)).setVm vm').setCell T.heap.size (npeBareV Th.toThrowableT N.toNpeT (freshCell P1.m.cls N.kN) T.heap.size (gt_rf (gc_aU θ)) (gt_rf (gc_aS θ)))).setTop (F0 (gx_m K) pc ls st)).pushFrame (.throwing T.heap.size) = (((T.pushCell (freshCell P1.m.cls N.kN)).setVm vm').setCell T.heap.size (npeBareV Th.toThrowableT N.toNpeT (freshCell P1.m.cls N.kN) T.heap.size (gt_rf (gc_aU θ)) (gt_rf (gc_aS θ)))).setFrames (.throwing T.heap.size :: .java (F0 (gx_m K) pc ls st) :: gx_b K) := by
      rw [State.pushFrame, State.frames_setTop _ hfrM, State.setTop_of_frames _ hfrM, State.setFrames_setFrames]
    rw [X.tail, ← hU]
    exact hrest
