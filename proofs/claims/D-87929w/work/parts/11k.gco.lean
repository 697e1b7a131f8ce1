/-! a place beyond an array -/
theorem gt_msgW {θ : gc_T} {args : Array Value} {s : State} (hall : ∀ w ∈ lw_all, w.before args s = true) (hz : gc_z θ s) :
    (∀ c ∈ Bundle.throwableSAtoms, c.before args s = true) ∧ (∀ c ∈ Bundle.stringAtoms, c.before args s = true) ∧ ∀ c ∈ Bundle.chainSAtoms Bundle.idxN Bundle.idxUp, c.before args s = true := by
  refine ⟨?_, ?_, ?_⟩
  · intro c hc
    simp only [Bundle.throwableSAtoms, List.mem_cons, List.not_mem_nil, or_false] at hc
    rcases hc with rfl | rfl | rfl | rfl
    · exact hall _ q756
    · exact hall _ q757
    · exact hall _ q174
    · exact hall _ q125
  · intro c hc
    simp only [Bundle.stringAtoms, List.mem_cons, List.not_mem_nil, or_false] at hc
    rcases hc with rfl | rfl | rfl | rfl | rfl | rfl | rfl
    · exact hall _ q94
    · exact hall _ q769
    · exact hall _ q213
    · exact hall _ q770
    · exact hall _ q772
    · exact hall _ q771
    · exact hall _ q773
  · intro c hc
    simp only [Bundle.chainSAtoms, Bundle.idxUp, Bundle.passSAtoms, List.mem_append, List.mem_cons, List.not_mem_nil, or_false] at hc
    rcases hc with (rfl | rfl | rfl | rfl | rfl) | (rfl | rfl | rfl | rfl | rfl) | (rfl | rfl | rfl | rfl | rfl) | (rfl | rfl | rfl | rfl | rfl)
    · exact hall _ q744
    · exact hall _ q745
    · exact hall _ q746
    · exact hall _ q747
    · exact va_Nw.use rfl (hz.2.1 _ q767 rfl)
    · exact hall _ q747
    · exact hall _ q748
    · exact hall _ q749
    · exact hall _ q750
    · exact va_Nw.use rfl (hz.2.1 _ q111 rfl)
    · exact hall _ q750
    · exact hall _ q751
    · exact hall _ q752
    · exact hall _ q753
    · exact va_Nw.use rfl (hz.2.1 _ q113 rfl)
    · exact hall _ q753
    · exact hall _ q754
    · exact hall _ q755
    · exact hall _ q756
    · exact va_Nw.use rfl (hz.2.1 _ q115 rfl)
set_option maxHeartbeats 1000000 in
theorem gt_idx {θ : gc_T} {K : gx_K} {M : gx_M} {T : State} {locs : List Loc} {cells slots pc : Nat} {ls : Array Slot} {st : List Value} {text : String} (h : gc_K θ K M) (X : Stand (gx_p K) (gx_l (gc_O θ)) (gx_e K) (gx_R K) (gx_s K) (gx_m K) (gx_a K) (gx_b K) (gx_t K) (gx_c K) T locs cells slots) (hag : gc_agree θ T.heap) (hls : ls.size = gx_Mn M)
    (htext : (text == notModelled) = false) (hbytes : (stringBytes (stringToUtf16 text)).size ≤ 212) (hRf : 7 < (gx_Mm M).frames) (hRl : (st.map fun v => v.category).sum + 10240 ≤ (gx_Mm M).locals) (hRc : cells + 3 ≤ (gx_Mm M).cells) (hRs : slots + 222 ≤ (gx_Mm M).slots) :
    ∃ (U : State) (L5 : List Loc) (cell : Cell), Stand (gx_p K) (gx_l (gc_O θ)) (gx_e K) (gx_R K) (gx_s K) (gx_m K) (gx_a K) (gx_b K) (gx_t K) (gx_c K) U (locs ++ L5) (cells + 3) (slots + 222) ∧ (∀ l ∈ L5, l.base = T.heap.size + 2) ∧ U.heap.size = T.heap.size + 3 ∧ (∀ q, q < T.heap.size → U.heap[q]? = T.heap[q]?) ∧
      U.heap[T.heap.size + 2]? = some cell ∧ cell.vm.isStatics = false ∧ (gx_s K).vm.findClass "java/lang/ArrayIndexOutOfBoundsException" = some cell.cls ∧
      ∀ target, Steps (gx_p K).tables (gx_e K) (gx_b K) ((U.setTop (F0 (gx_m K) pc ls st)).pushFrame (.throwing (T.heap.size + 2))) target → Steps (gx_p K).tables (gx_e K) (gx_b K) ((T.setTop (F0 (gx_m K) pc ls st)).pushFrame (.throwNew "java/lang/ArrayIndexOutOfBoundsException" (some text) none)) target := by
  have hRM := h.2.2.2.2.2.2.2.2.1
  have hz := h.2.2.2.2.2.2.2.1
  have hall := h.2.2.2.2.1
  have howns : (gx_e K).platform.frameOwnsMonitors = true := by rw [X.admits.platform]
  have hfin : (gx_e K).platform.finalization = false := by rw [X.admits.platform]
  have hpl : (gx_e K).platform.magicAccessors = ({} : Platform).magicAccessors := by rw [X.admits.platform]
  have htr : (gx_e K).platform.stackTraces = false := by rw [X.admits.platform]; exact hz.2.2.2.2.2.2.1
  obtain ⟨w1, w2, w3⟩ := gt_msgW (args := gx_a K) hall hz
  obtain ⟨Th, Z0, TL, -, Y⟩ := ThrowableC.of_atoms (args := gx_a K) howns hfin hpl (gt_atoms hall hz (gc_same h))
  obtain ⟨Z, MC, LZ, LM, hnZ⟩ := Init0T.ofS_atoms (args := gx_a K) hpl TL Y w1
  obtain ⟨P1, Ps, hlen, L1, hL, hm1, hlink1, hlink⟩ := Bundle.chainS (args := gx_a K) hpl hnZ Bundle.idxUp Bundle.idxN (by decide) (by decide) w3
  obtain ⟨Zs, LZs, hn4, hfitv, hfitc⟩ := StringT.of_atoms (args := gx_a K) w2
  have hlen3 : Ps.length = 3 := hlen
  have hfound : (gx_s K).vm.findClass "java/lang/ArrayIndexOutOfBoundsException" = some P1.m.cls := findClass_of_methodNamed hm1
  obtain ⟨c1, kX, hc1, hk, hord, -, -, hn6⟩ := Cond.instantiable_spec (hall _ q743)
  cases Option.some.inj (hc1.symm.trans hfound)
  have hinit := Cond.initialized_spec hfound hk (hall _ q93)
  have hctor : kX.findMethod "<init>" "(Ljava/lang/String;)V" = some P1.m.idx := findMethod_of_methodNamed hm1 hk
  have hsel0 : selectMethod (gx_e K).platform (gx_s K).vm P1.m.cls Th.fill0 = .method Th.fill0 := gt_sel (hall _ q768) hfound Y.fill0 (by decide) Y.fill0 (Launch.admits_selectMethod X.admits ..)
  have hselF : selectMethod (gx_e K).platform (gx_s K).vm P1.m.cls Th.fill = .method Th.fill := gt_sel (hall _ q140) hfound Y.fill (by decide) Y.fill (Launch.admits_selectMethod X.admits ..)
  obtain ⟨cellS, hcS, hkS, hvU, hvS, hnA⟩ := gt_stat hz hag TL Y
  obtain ⟨iM, hffM⟩ := Y.msg
  obtain ⟨tyC, dC, hdC, hdnC⟩ := Cond.laysAt hfound hk Y.cause (hall _ q760)
  obtain ⟨tyS, dS, hdS, hdnS⟩ := Cond.laysAt hfound hk Y.stack (hall _ q761)
  obtain ⟨tyP, dP, hdP, hdnP⟩ := Cond.laysAt hfound hk Y.supp (hall _ q763)
  obtain ⟨tyM, dM, hdM, hdnM⟩ := Cond.laysAt hfound hk hffM (hall _ q759)
  obtain ⟨ci198, i198, fB, hk198, hg198, ha198, hsB, -, hnB, htB, hffB⟩ := Cond.ownField (t := .object "java/lang/Object") Y.found TL.cls (by decide +kernel) (hall _ q173) (hall _ q127) (gx_e K).platform hpl
  obtain ⟨tyB, dB, hdB, hdnB⟩ := Cond.laysAt hfound hk hffB (hall _ q758)
  have bC := Cond.laysApart hdB hdC hdnB hdnC (by rw [hnB, Y.causeName]; decide)
  have bS := Cond.laysApart hdB hdS hdnB hdnS (by rw [hnB, Y.stackName]; decide)
  have bP := Cond.laysApart hdB hdP hdnB hdnP (by rw [hnB, Y.suppName]; decide)
  have hskip : SkipFacts Th (gx_e K).platform (gx_s K) (fun u => u) (gt_rf (gc_aU θ)) ((preparedCellV Th.toThrowableT (freshCell P1.m.cls kX) (T.heap.size + 2) (gt_rf (gc_aU θ)) (gt_rf (gc_aS θ))).withEntry T.cur) :=
    ⟨{ ci198 := ci198, i198 := i198, fBack := fB }, ⟨hk198, hg198, ha198, hsB⟩, by
      have := fresh_default (c := P1.m.cls) tyB
      rw [htB] at this
      simpa [preparedCellV, Cell.setSlot, Cell.withEntry, Array.getElem?_setIfInBounds, bC, bS, bP, bC.symm, bS.symm, bP.symm, defaultValue] using this, fun _ _ => rfl⟩
  have hsz : (F0 (gx_m K) pc ls st).locals.size = (gx_c K).maxLocals := hls.trans h.2.2.1.symm
  obtain ⟨hbeyond, hfreeW⟩ := X.vmMayThrow hsz (.throwNew "java/lang/ArrayIndexOutOfBoundsException" (some text) none) (fun f hf => by cases hf) rfl (by show 2 * 0 + (st.map fun v => v.category).sum + 10240 ≤ _; rw [hRM]; omega)
  have hfr' := X.framesAbove (n := 7) (by rw [hRM]; omega)
  have hwd' := X.stackAbove hsz (K := 94) (by show 2 * 0 + (st.map fun v => v.category).sum + 94 ≤ _; rw [hRM]; omega)
  have hslots := X.slotsAbove (n := 222) (by rw [hRM]; exact hRs)
  have hlim : (gx_e K).platform.arrayLengthLimit = ({} : Platform).arrayLengthLimit ∧ (gx_e K).platform.maxHeapBytes = ({} : Platform).maxHeapBytes := by rw [X.admits.platform]; exact ⟨rfl, rfl⟩
  have hl1 : ({} : Platform).arrayLengthLimit = 2147483645 := by decide
  have hl2 : ({} : Platform).maxHeapBytes = 536870912 := by decide
  have hcb : componentBytes .byte = 1 := by decide
  obtain ⟨vm', hW', stp⟩ := Steps.vmThrowsMessageColdByV (gx_p K) (s₀ := gx_s K) (S := T) (g := F0 (gx_m K) pc ls st) X.here h.1 Th TL Z LZ MC LM X.warmed (t := T.cur) rfl Zs LZs P1 L1 Ps hL hlink1 hlink (cls := "java/lang/ArrayIndexOutOfBoundsException") (m := text) (by decide) (by decide) hfound hk hinit hord hctor
    (Launch.admits_hotImplicitExceptions X.admits) hbeyond hfreeW htext (by rw [hlim.1, hl1]; omega) (by rw [hlim.2, hl2, hcb]; omega) (X.cellsAbove (by rw [hRM]; exact hRc)) (by rw [hn4, hn6]; omega) (hfitv _) (hfitc _)
    (Nn := fun u => u) heapOnly_id (fun _ _ => rfl) (fun _ => rfl) (fun u x y => setCell_twice _ _ _ _) (fun _ => Nat.le_refl _) (u0 := gt_rf (gc_aU θ)) (sen := gt_rf (gc_aS θ)) (cellS := cellS) (cN := ((preparedCellV Th.toThrowableT (freshCell P1.m.cls kX) (T.heap.size + 2) (gt_rf (gc_aU θ)) (gt_rf (gc_aS θ))).withEntry T.cur))
    hsel0 hcS hkS hvU (Takes.of_laid hk hord tyS (by rw [Y.stackType]; exact fits_refV_array _ _)) (fun _ hu => hu) (fun _ hu => hu) rfl rfl rfl (by simp [preparedCellV, Cell.setSlot, Cell.withEntry]) hskip
    (fun _ _ hA hW _ hroom _ hrest => TL.nativeOff _ htr hA hW hroom hrest) hselF hvS (Takes.of_laid hk hord tyC (by rw [Y.causeType]; rfl)) (Takes.of_laid hk hord tyP (by rw [Y.suppType]; exact fits_refV_object _ _)) (Takes.of_laid hk hord tyM (by rw [Y.msgType]; rfl)) Y.objLocals rfl (by rw [hlen3]; omega) (by rw [hlen3]; omega)
  rw [plainBareV_eq Th.toThrowableT (T.heap.size + 2) (gt_rf (gc_aU θ)) (gt_rf (gc_aS θ)) (.ref (T.heap.size + 1)) T.cur rfl rfl] at stp
  obtain ⟨-, -, w3, w4, -, -, -⟩ := withThrown_facts (gx_e K).platform T Zs text P1.m.cls kX
  have X3 := ((X.pushed (bytesOf Zs.cB (stringToUtf16 text))).pushed (stringAt Zs.cS Zs.kS Zs.fv Zs.fc (stringToUtf16 text) T.heap.size)).pushed (freshCell P1.m.cls kX)
  have z1 : (bytesOf Zs.cB (stringToUtf16 text)).slots.size = (stringBytes (stringToUtf16 text)).size := by
    rw [(Cell.writeAll_facts _ _).2.2]; simp [bytes0]
  have z2 : (stringAt Zs.cS Zs.kS Zs.fv Zs.fc (stringToUtf16 text) T.heap.size).slots.size = 4 := by
    simp [stringAt, string0, Cell.setSlot, hn4]
  have z3 : (freshCell P1.m.cls kX).slots.size = 6 := by simp [hn6]
  rw [← withString_eq] at X3
  have X4 := stand_widen (X3.noted hW') (k := cells + 3) (n := slots + 222) (by omega) (by rw [z1, z2, z3]; omega)
  have ha : (T.heap.size + 2) < ((withThrown T Zs text P1.m.cls kX).setVm vm').heap.size := by show _ < (withThrown T Zs text P1.m.cls kX).heap.size; rw [w3]; omega
  have hcell : ((withThrown T Zs text P1.m.cls kX).setVm vm').heap[(T.heap.size + 2)]? = some (freshCell P1.m.cls kX) := w4
  have X5 := ((((X4.stored hcell Th.fCause.slot (.ref (T.heap.size + 2))).storedAgain ha Th.fStack.slot (gt_rf (gc_aU θ)).v).storedAgain ha Th.fSupp.slot (gt_rf (gc_aS θ)).v).storedAgain ha Th.fStack.slot (gt_rf (gc_aU θ)).v).storedAgain ha Th.fMsg.slot (.ref (T.heap.size + 1))
  refine ⟨((withThrown T Zs text P1.m.cls kX).setVm vm').setCell (T.heap.size + 2) (plainBareV Th.toThrowableT (freshCell P1.m.cls kX) (T.heap.size + 2) (gt_rf (gc_aU θ)) (gt_rf (gc_aS θ)) (.ref (T.heap.size + 1))), [⟨T.heap.size + 2, Th.fCause.slot⟩, ⟨T.heap.size + 2, Th.fStack.slot⟩, ⟨T.heap.size + 2, Th.fSupp.slot⟩, ⟨T.heap.size + 2, Th.fStack.slot⟩, ⟨T.heap.size + 2, Th.fMsg.slot⟩], plainBareV Th.toThrowableT (freshCell P1.m.cls kX) (T.heap.size + 2) (gt_rf (gc_aU θ)) (gt_rf (gc_aS θ)) (.ref (T.heap.size + 1)), ?_, ?_, ?_, ?_, heapAt_setCell_self _ ha, rfl, hfound, ?_⟩
  · simpa only [List.append_assoc, List.cons_append, List.nil_append] using X5
  · intro l hl
    simp only [List.mem_cons, List.not_mem_nil, or_false] at hl
    rcases hl with rfl | rfl | rfl | rfl | rfl <;> rfl
  · rw [size_setCell]; exact w3
  · intro q hq
    rw [heapAt_setCell_ne _ (show T.heap.size + 2 ≠ q by omega)]
    show (withThrown T Zs text P1.m.cls kX).heap[q]? = _
    unfold withThrown
    rw [withString_eq]
    have q1 := State.heap_pushCell_of_lt T (bytesOf Zs.cB (stringToUtf16 text)) hq
    have s1 : (T.pushCell (bytesOf Zs.cB (stringToUtf16 text))).heap.size = T.heap.size + 1 := State.heap_size_pushCell _ _
    have s2 : ((T.pushCell (bytesOf Zs.cB (stringToUtf16 text))).pushCell (stringAt Zs.cS Zs.kS Zs.fv Zs.fc (stringToUtf16 text) T.heap.size)).heap.size = T.heap.size + 2 := (State.heap_size_pushCell _ _).trans (congrArg (· + 1) s1)
    have h1 : q < (T.pushCell (bytesOf Zs.cB (stringToUtf16 text))).heap.size := Nat.lt_of_lt_of_le hq (by rw [s1]; exact Nat.le_succ _)
    have h2 : q < ((T.pushCell (bytesOf Zs.cB (stringToUtf16 text))).pushCell (stringAt Zs.cS Zs.kS Zs.fv Zs.fc (stringToUtf16 text) T.heap.size)).heap.size := Nat.lt_of_lt_of_le hq (by rw [s2]; exact Nat.le_add_right _ _)
    have q2 := State.heap_pushCell_of_lt (T.pushCell (bytesOf Zs.cB (stringToUtf16 text))) (stringAt Zs.cS Zs.kS Zs.fv Zs.fc (stringToUtf16 text) T.heap.size) h1
    have q3 := State.heap_pushCell_of_lt ((T.pushCell (bytesOf Zs.cB (stringToUtf16 text))).pushCell (stringAt Zs.cS Zs.kS Zs.fv Zs.fc (stringToUtf16 text) T.heap.size)) (freshCell P1.m.cls kX) h2
    exact q3.trans (q2.trans q1)
  · intro target hrest
    refine stp target ?_
    obtain ⟨g₁, hfrM⟩ := X5.frames_eq
    have hU : ((((withThrown T Zs text P1.m.cls kX).setVm vm').setCell (T.heap.size + 2) (plainBareV Th.toThrowableT (freshCell P1.m.cls kX) (T.heap.size + 2) (gt_rf (gc_aU θ)) (gt_rf (gc_aS θ)) (.ref (T.heap.size + 1)))).setTop (F0 (gx_m K) pc ls st)).pushFrame (.throwing (T.heap.size + 2)) = (((withThrown T Zs text P1.m.cls kX).setVm vm').setCell (T.heap.size + 2) (plainBareV Th.toThrowableT (freshCell P1.m.cls kX) (T.heap.size + 2) (gt_rf (gc_aU θ)) (gt_rf (gc_aS θ)) (.ref (T.heap.size + 1)))).setFrames (.throwing (T.heap.size + 2) :: .java (F0 (gx_m K) pc ls st) :: gx_b K) := by
      rw [State.pushFrame, State.frames_setTop _ hfrM, State.setTop_of_frames _ hfrM, State.setFrames_setFrames]
    rw [X.tail, ← hU]
    exact hrest
