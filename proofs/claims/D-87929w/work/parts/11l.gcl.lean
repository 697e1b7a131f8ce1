/-! the machine's own exceptions, caught where they arise -/
theorem gt_catch {θ : gc_T} {K : gx_K} {M : gx_M} {U : State} {locs : List Loc} {cells slots pc a : Nat} {ls : Array Slot} {st : List Value} {cell : Cell} {Q : State → Prop} (h : gc_K θ K M) (X : Stand (gx_p K) (gx_l (gc_O θ)) (gx_e K) (gx_R K) (gx_s K) (gx_m K) (gx_a K) (gx_b K) (gx_t K) (gx_c K) U locs cells slots)
    (hcell : U.heap[a]? = some cell) (hst : cell.vm.isStatics = false) (pre : List ExceptionTableEntry) (y : ExceptionTableEntry) (rest : List ExceptionTableEntry) (hs : tableOf (gx_Mh M) = pre ++ y :: rest) (hx : covers y pc = true) (h0 : y.catchType ≠ 0) {name : String} (q : Cond.classLink (gx_My M).cls y.catchType name ∈ lw_all)
    (hfit : ∃ t, (gx_s K).vm.findClass name = some t ∧ (gx_s K).vm.assignable cell.cls t = true) (hpass : ∀ z ∈ pre, gt_P (gx_e K).platform (gx_s K) (gx_m K).cls pc cell.cls z)
    (k : ∀ vm', Stand (gx_p K) (gx_l (gc_O θ)) (gx_e K) (gx_R K) (gx_s K) (gx_m K) (gx_a K) (gx_b K) (gx_t K) (gx_c K) (U.setVm vm') locs cells slots → ∃ t, Steps (gx_p K).tables (gx_e K) (gx_b K) ((U.setVm vm').setTop (F0 (gx_m K) y.handlerPc ls [.ref a])) t ∧ Q t) :
    ∃ t, Steps (gx_p K).tables (gx_e K) (gx_b K) ((U.setTop (F0 (gx_m K) pc ls st)).pushFrame (.throwing a)) t ∧ Q t := by
  obtain ⟨t0, f2, f3⟩ := hfit
  have hpl : (gx_e K).platform.magicAccessors = ({} : Platform).magicAccessors := by rw [X.admits.platform]
  obtain ⟨c', hc', hcl⟩ := Cond.classLink_spec h.2.2.2.1 (h.2.2.2.2.1 _ q) (gx_e K).platform hpl
  cases f2.symm.trans hc'
  obtain ⟨dk, _, _, kt, hd, _, _, _, _, hkt, _, hopen⟩ := hcl.here
  obtain ⟨vm', hW', hq⟩ := gt_through (e := gx_e K) (s₀ := gx_s K) (f := F0 (gx_m K) pc ls st) (a := a) (cell := cell) (VmData.ne_statics_of hst) (Vm.classAt_of_assignable f3 ⟨kt, hkt⟩) y rest hx h0 hcl f3 pre ((U.setTop (F0 (gx_m K) pc ls st)).pushFrame (.throwing a))
    (by rw [Stand.throwing_vm]; exact X.warmed) (by rw [Stand.throwing_heap]; exact hcell) hpass
  obtain ⟨t2, a1, b1⟩ := k vm' (X.noted hW')
  refine ⟨t2, gt_caught (pc := y.handlerPc) (vm' := vm') X.here ?_ a1, b1⟩
  intro Q E d acts
  rw [W.findHandler_eq (meth := gx_t K) (code := gx_c K) (by rw [Stand.throwing_vm]; exact X.method') X.code, h.2.2.2.2.2.2.2.2.2.2.2.1, hs]
  exact hq Q E d acts
/-- getfield of a nest mate's field: null is met -/
theorem gt_null {p : Program} {l : Launch} {e : Env} {R : Room} {s : State} {m : MethodId} {args : Array Value} {below : List Frame} {meth : Method} {c : Code} {T : State} {locs : List Loc} {cells slots : Nat} (X : Stand p l e R s m args below meth c T locs cells slots) (hexec : p.tables.exec = Jvm.exec)
    {own ref name desc host : String} {index : Nat} (hown : s.vm.findClass own = some m.cls) (hlink : (Cond.fieldLinkNest own index ref name desc host).before args s = true) {cf i : Nat} {k : Class} {f : Field} (hi : s.fieldFound? ref name desc = some (cf, k, i, f)) (hst : f.isStatic = false)
    {g : JFrame} (hg : g.method = m) {rest : List Value} (hstack : g.stack = .null :: rest) (hdg : decode c.code g.pc = .ok (.getfield index, 3)) :
    ∃ vm', Stand p l e R s m args below meth c (T.setVm vm') locs cells slots ∧
      ∀ target, Steps p.tables e below (((T.setVm vm').setTop { g with stack := rest }).pushFrame (.throwNew "java/lang/NullPointerException" none none)) target → Steps p.tables e below (T.setTop g) target := by
  have hpl : e.platform.magicAccessors = ({} : Platform).magicAccessors := by rw [X.admits.platform]
  obtain ⟨ci', cfl, k', i', f', hh, -, hi', hlinks, hright⟩ := Cond.fieldLinkNest_spec hown hlink e.platform hpl
  cases hi.symm.trans hi'
  obtain ⟨hk, hf⟩ := State.fieldFound?_spec hi
  obtain ⟨vm', hgives, hW', hready, hfi⟩ := State.fieldEntryNest (e := e) X.warmed hlinks hright hk hf
  refine ⟨vm', X.noted hW', fun target hrest => ?_⟩
  subst hg
  jvm_step X.here [hexec, hdg, Op.getfield.wp_cold (e := e) (s := T) (f := g) X.here.top hgives hready hfi,
    Op.getfield.wp_readyNull (e := e) (s := T.setVm vm') (f := g) X.here.top hready hst hstack, nullPointer]
  exact hrest
section GCL
variable {θ : gc_T} {K : gx_K} {M : gx_M} {Post : Outcome → gc_S → Prop} {pc : Nat} {L : List (Nat × Value)} {st : List Value} {σ : gc_S} {bc bs : Nat} {a : Nat}
theorem gc_wkeep {H : Heap} {H' : Heap} {locs' : List Loc} (h : gc_K θ K M) (hw : gc_w θ σ H) (hS : va_S (gc_A θ) (gx_s K).heap H' locs') (hk : ∀ q, q < H.size → H'[q]? = H[q]?) : gc_w θ σ H' :=
  gc_to h rfl (hw.1.kept (fun k x hx => hk x.1 ((hw.1 k x hx).lt))) hw.2.1 hS
/-- Tree.root of null, in BranchMender.tree -/
theorem gc_rootN (h : gc_K θ K M) (hc : (gx_My M).cls = "BranchMender") (hh : gx_Mh M = [(0, 21, 22, 123), (0, 21, 32, 125)]) (hpc : pc < 21) (hR : 8 ≤ (gx_Mm M).frames ∧ 10300 ≤ (gx_Mm M).locals) (hst : (st.map fun v => v.category).sum ≤ 8) (d : decode (gx_Mc M) pc = .ok (.getfield 114, 3)) (hbc : 1 ≤ bc) (hbs : 8 ≤ bs)
    (kk : ∀ a, gc_G θ K M Post 32 L [.ref a] σ (bc - 1) (bs - 8)) : gc_G θ K M Post pc L (.null :: st) σ bc bs := by
  intro H locs ls c n hL hw hS e1 e2 T hT X
  have hz := h.2.2.2.2.2.2.2.1
  have hall := h.2.2.2.2.1
  obtain ⟨hSl, hCl⟩ := hz.1.1 7 (RX8, TX8, 5) rfl
  obtain ⟨cf, kf, fi, f, hf, -⟩ := hSl 0 (by decide)
  obtain ⟨kC, hkC, -⟩ := hCl.2
  have hst0 := (u_facts hCl.1 hkC (u_lays hall in_X8 (k := 0) (by decide)) hf).1
  obtain ⟨vm1, X1, st1⟩ := gt_null X h.1 (own := (gx_My M).cls) h.2.2.2.1 (va_Nw.use rfl (hz.2.1 _ (hc ▸ q708) rfl)) hf hst0 (g := F0 (gx_m K) pc ls (.null :: st)) rfl rfl (by rw [h.2.1]; exact d)
  have hT1 : (T.setVm vm1).heap = H := hT
  obtain ⟨U, L5, cell, X2, y1, y2, y3, y4, y5, y6, st2⟩ := gt_npe (pc := pc) (ls := ls) (st := st) h X1 (by rw [hT1]; exact ⟨hw.2.2.2.2.1, hw.2.2.2.2.2⟩) hL.1 (by omega) (by omega) (by omega) (by omega)
  rw [hT1] at y1 y2 y3 y4 st2
  have hcls : ∃ t, (gx_s K).vm.findClass "java/lang/NullPointerException" = some t ∧ (gx_s K).vm.assignable cell.cls t = true := ⟨cell.cls, y6, va_asg _ _⟩
  have htab : tableOf (gx_Mh M) = [⟨0, 21, 22, 123⟩] ++ (⟨0, 21, 32, 125⟩ : ExceptionTableEntry) :: [] := by rw [hh]; rfl
  obtain ⟨t, a1, b1⟩ := gt_catch (pc := pc) (ls := ls) (st := st) (Q := gx_MQ (gx_b K) (gx_Q (gc_O θ) Post) (gx_a K) (gx_s K) (gx_Mm M).cells (gx_Mm M).slots (gx_A (gc_O θ))) h X2 y4 y5 [⟨0, 21, 22, 123⟩] ⟨0, 21, 32, 125⟩ [] htab (by simp [covers]; omega) (by decide) (name := "java/lang/NullPointerException") (by rw [hc]; exact q774) hcls (fun z hz1 => by
      simp only [List.mem_cons, List.not_mem_nil, or_false] at hz1
      subst hz1
      have hpl : (gx_e K).platform.magicAccessors = ({} : Platform).magicAccessors := by rw [X.admits.platform]
      have hl : (Cond.classLink (gx_My M).cls 123 "java/lang/ArrayIndexOutOfBoundsException").before (gx_a K) (gx_s K) = true := hall _ (by rw [hc]; exact q742)
      obtain ⟨c', hc', hcl⟩ := Cond.classLink_spec h.2.2.2.1 hl (gx_e K).platform hpl
      exact Or.inr ⟨by decide, c', hcl, hz.2.2.2.2.2.2.2.2 _ _ y6 hc'⟩) (fun vm' X3 => by
      have hS2 : va_S (gc_A θ) (gx_s K).heap U.heap (locs ++ L5) := ⟨Nat.le_trans hS.1 (by omega), fun x h1 h2 => (y3 x (Nat.lt_of_lt_of_le h1 hS.1)).trans (hS.2.1 x h1 h2), fun l hl => by
        rcases List.mem_append.mp hl with hl | hl
        · exact hS.2.2 l hl
        · rw [y1 l hl]; exact hw.2.2.1 _ (Nat.le_refl _)⟩
      exact kk H.size U.heap (locs ++ L5) ls (c + 1) (n + 8) hL (gc_wkeep h hw hS2 y3) hS2 (by omega) (by omega) (U.setVm vm') rfl X3)
  exact ⟨t, st1 t (st2 t a1), b1⟩
/-- a tree beyond the row of places, in BranchMender.tree -/
theorem gc_treeO (h : gc_K θ K M) (hc : (gx_My M).cls = "BranchMender") (hh : gx_Mh M = [(0, 21, 22, 123), (0, 21, 32, 125)]) (hpc : pc < 21) (hR : 8 ≤ (gx_Mm M).frames ∧ 10300 ≤ (gx_Mm M).locals) (hst : (st.map fun v => v.category).sum ≤ 8) (ha : gc_is σ a 19) (hn : gc_n σ a < 2 ^ 31) {i : Int32} (hi : i < 0 ∨ gc_n σ a ≤ i.toNatClampNeg) (d : decode (gx_Mc M) pc = .ok (.aaload, 1)) (hbc : 3 ≤ bc) (hbs : 222 ≤ bs)
    (kk : ∀ a, gc_G θ K M Post 22 L [.ref a] σ (bc - 3) (bs - 222)) : gc_G θ K M Post pc L (.int i :: .ref a :: st) σ bc bs := by
  intro H locs ls c n hL hw hS e1 e2 T hT X
  have hz := h.2.2.2.2.2.2.2.1
  have hall := h.2.2.2.2.1
  obtain ⟨x, hx⟩ := gc_at (θ := θ) ha.1
  rw [gc_e_ref ha.2 (by decide)] at hx
  have hcl : T.heap[a]? = some (vp_cell (gc_c θ 19) (gc_n σ a, .inr (.inr (.inr (.inr (gc_Q σ a)))))) := by rw [hT]; exact hw.1 x _ hx
  rw [vp_cell_q] at hcl
  have hsz : (arrV (gc_c θ 19) (gc_n σ a) (fun j => va_rf (gc_Q σ a j))).slots.size = gc_n σ a := arrV_size _ _ _
  have st1 := X.aaloadOut h.1 (j := i) hcl ((hz.1.2 5 _ rfl).1 (gc_n σ a) (fun j => va_rf (gc_Q σ a j))) (by rw [hsz]; exact hi) (g := F0 (gx_m K) pc ls (.int i :: .ref a :: st)) rfl (rest := st) rfl (by rw [h.2.1]; exact d)
  rw [hsz] at st1
  obtain ⟨U, L5, cell, X2, y1, y2, y3, y4, y5, y6, st2⟩ := gt_idx (pc := pc) (ls := ls) (st := st) h X (by rw [hT]; exact ⟨hw.2.2.2.2.1, hw.2.2.2.2.2⟩) hL.1 (index_text_modelled i (gc_n σ a)) (index_text_bytes i hn) (by omega) (by omega) (by omega) (by omega)
  rw [hT] at y1 y2 y3 y4 st2
  have hcls : ∃ t, (gx_s K).vm.findClass "java/lang/ArrayIndexOutOfBoundsException" = some t ∧ (gx_s K).vm.assignable cell.cls t = true := ⟨cell.cls, y6, va_asg _ _⟩
  have htab : tableOf (gx_Mh M) = [] ++ (⟨0, 21, 22, 123⟩ : ExceptionTableEntry) :: [⟨0, 21, 32, 125⟩] := by rw [hh]; rfl
  obtain ⟨t, a1, b1⟩ := gt_catch (pc := pc) (ls := ls) (st := st) (Q := gx_MQ (gx_b K) (gx_Q (gc_O θ) Post) (gx_a K) (gx_s K) (gx_Mm M).cells (gx_Mm M).slots (gx_A (gc_O θ))) h X2 y4 y5 [] ⟨0, 21, 22, 123⟩ [⟨0, 21, 32, 125⟩] htab (by simp [covers]; omega) (by decide) (name := "java/lang/ArrayIndexOutOfBoundsException") (by rw [hc]; exact q742) hcls (fun z hz1 => absurd hz1 List.not_mem_nil) (fun vm' X3 => by
      have hS2 : va_S (gc_A θ) (gx_s K).heap U.heap (locs ++ L5) := ⟨Nat.le_trans hS.1 (by omega), fun x h1 h2 => (y3 x (Nat.lt_of_lt_of_le h1 hS.1)).trans (hS.2.1 x h1 h2), fun l hl => by
        rcases List.mem_append.mp hl with hl | hl
        · exact hS.2.2 l hl
        · rw [y1 l hl]; exact hw.2.2.1 _ (by omega)⟩
      exact kk (H.size + 2) U.heap (locs ++ L5) ls (c + 3) (n + 222) hL (gc_wkeep h hw hS2 y3) hS2 (by omega) (by omega) (U.setVm vm') rfl X3)
  exact ⟨t, st1 t (st2 t a1), b1⟩
end GCL
