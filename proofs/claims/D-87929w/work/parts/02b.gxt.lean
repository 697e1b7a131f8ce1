/-! THROWS: out of a method; into a handler whose catch type may still be cold -/
/-- what the search for a handler gives, and the tables that it leaves -/
def gt_F (e : Env) (s : State) (f : JFrame) (a : Addr) (h : Handler) (vm' : Vm) : Prop :=
  ∀ (Q : Handler → Pre) (E : CtlPost) (d : Bool) (acts : List Action), wp (findHandler f a) Q E e d acts s ↔ Q h d acts (s.setVm vm')
section GTW
variable {Q : Handler → Pre} {E : CtlPost} {e : Env} {d : Bool} {acts : List Action} {s : State} {f : JFrame} {a : Addr}
theorem gt_link {x : ExceptionTableEntry} {t : List ExceptionTableEntry} {c : ClassId} {cell : Cell} (hx : covers x f.pc = true) (h0 : x.catchType ≠ 0)
    (hl : s.vm.ClassLinks e.platform f.method.cls x.catchType c) (hcell : s.heap[a]? = some cell) (hobj : ∀ k, cell.vm ≠ .statics k)
    (hk : ∃ k, s.vm.classes[cell.cls]? = some k) (hc : ∃ k, s.vm.classes[c]? = some k) (hfit : s.vm.assignable cell.cls c = true) :
    wp (findHandler.go f a (x :: t)) Q E e d acts s ↔ Q (.found x.handlerPc) d acts (s.setVm (s.vm.noted f.method.cls x.catchType (.cls c))) := by
  simp only [covers] at hx
  obtain ⟨ha, ht⟩ := (resolveClass_links e.toSetting hl).op (op := VmOp.resolveClass f.method.cls x.catchType) rfl
  have hal : s.vm.Alike (s.vm.noted f.method.cls x.catchType (.cls c)) := (Vm.Alike.refl s.vm).noted _ _ _
  obtain ⟨k1, hk1⟩ := hk
  obtain ⟨k2, hk2⟩ := hc
  obtain ⟨k1', hk1', -⟩ := hal.2.2 _ _ hk1
  obtain ⟨k2', hk2', -⟩ := hal.2.2 _ _ hk2
  have hfit' : (s.vm.noted f.method.cls x.catchType (.cls c)).assignable cell.cls c = true := by rw [hal.assignable]; exact hfit
  simp [findHandler.go, hx, h0, ha, ht, hcell, hobj, hk1', hk2', hfit', VmOp.dirties, VmOp.acts]
theorem gt_linkNo {x : ExceptionTableEntry} {t : List ExceptionTableEntry} {c : ClassId} {cell : Cell} (hx : covers x f.pc = true) (h0 : x.catchType ≠ 0)
    (hl : s.vm.ClassLinks e.platform f.method.cls x.catchType c) (hcell : s.heap[a]? = some cell) (hobj : ∀ k, cell.vm ≠ .statics k)
    (hk : ∃ k, s.vm.classes[cell.cls]? = some k) (hc : ∃ k, s.vm.classes[c]? = some k) (hno : s.vm.assignable cell.cls c = false) :
    wp (findHandler.go f a (x :: t)) Q E e d acts s ↔ wp (findHandler.go f a t) Q E e d acts (s.setVm (s.vm.noted f.method.cls x.catchType (.cls c))) := by
  simp only [covers] at hx
  obtain ⟨ha, ht⟩ := (resolveClass_links e.toSetting hl).op (op := VmOp.resolveClass f.method.cls x.catchType) rfl
  have hal : s.vm.Alike (s.vm.noted f.method.cls x.catchType (.cls c)) := (Vm.Alike.refl s.vm).noted _ _ _
  obtain ⟨k1, hk1⟩ := hk
  obtain ⟨k2, hk2⟩ := hc
  obtain ⟨k1', hk1', -⟩ := hal.2.2 _ _ hk1
  obtain ⟨k2', hk2', -⟩ := hal.2.2 _ _ hk2
  have hno' : (s.vm.noted f.method.cls x.catchType (.cls c)).assignable cell.cls c = false := by rw [hal.assignable]; exact hno
  simp [findHandler.go, hx, h0, ha, ht, hcell, hobj, hk1', hk2', hno', VmOp.dirties, VmOp.acts]
end GTW
theorem gt_step {e : Env} {s : State} {a : Addr} {f : JFrame} {r : List Frame} {pc : Nat} {vm' : Vm} (hfind : gt_F e s f a (.found pc) vm') :
    (stepThrowing e s a (.java f :: r)).Is ((s.setVm vm').setFrames (.java { f with pc := pc, stack := [.ref a] } :: r)) [] := by
  simp only [stepThrowing, searchFrame, vmDo]
  generalize hr : Sem.go _ e false [] s = res
  obtain ⟨as, rfl, ha⟩ := Sem.eq_ok_of hr (a := Handler.found pc) (s' := s.setVm vm') (acts' := []) (by simp [hfind _ _ _ _])
  exact ⟨rfl, ha⟩
theorem gt_sf (u : State) (vm' : Vm) (F G : List Frame) : ((u.setFrames F).setVm vm').setFrames G = (u.setVm vm').setFrames G := by
  have h1 : (u.setFrames F).setVm vm' = (u.setVm vm').setFrames F := rfl
  rw [h1, State.setFrames_setFrames]
theorem gt_caught {tb : Tables} {e : Env} {s target : State} {g : JFrame} {c : Code} {below : List Frame} {a : Addr} (h : At s g.method c below) {pc : Nat} {vm' : Vm}
    (hfind : gt_F e ((s.setTop g).pushFrame (.throwing a)) g a (.found pc) vm') (hrest : Steps tb e below ((s.setVm vm').setTop { g with pc := pc, stack := [.ref a] }) target) :
    Steps tb e below ((s.setTop g).pushFrame (.throwing a)) target := by
  obtain ⟨hgo, hw⟩ := h.throwing a
  refine Steps.head hgo hw ?_
  rw [stepThread_throwing (frames_entered h.top _), (gt_step (s := (s.setTop g).pushFrame (.throwing a)) hfind).1]
  obtain ⟨g₀, hg⟩ := Option.isSome_iff_exists.mp h.top
  obtain ⟨r, hr⟩ := State.topJava?_eq_some.mp hg
  have hr' : (s.setVm vm').frames = .java g₀ :: r := hr
  rw [State.setTop_of_frames _ hr'] at hrest
  rw [hr, List.tail_cons, State.pushFrame, gt_sf, State.setTop_of_frames _ hr, gt_sf]
  exact hrest
/-- a row of the table that is passed: it doesn't cover the place, or its class isn't one of the object's -/
def gt_P (pl : Platform) (s₀ : State) (d : ClassId) (pc : Nat) (thrown : ClassId) (y : ExceptionTableEntry) : Prop :=
  covers y pc = false ∨ (y.catchType ≠ 0 ∧ ∃ c, s₀.vm.ClassLinks pl d y.catchType c ∧ s₀.vm.assignable thrown c = false)
theorem gt_through {e : Env} {s₀ : State} {f : JFrame} {a : Addr} {cell : Cell} (hobj : ∀ k, cell.vm ≠ .statics k) (hk0 : ∃ k, s₀.vm.classes[cell.cls]? = some k)
    (x : ExceptionTableEntry) (rest : List ExceptionTableEntry) (hx : covers x f.pc = true) (h0 : x.catchType ≠ 0) {c : ClassId} (hl : s₀.vm.ClassLinks e.platform f.method.cls x.catchType c) (hfit : s₀.vm.assignable cell.cls c = true) :
    ∀ (pre : List ExceptionTableEntry) (S : State), s₀.WarmedH S.vm → S.heap[a]? = some cell → (∀ y ∈ pre, gt_P e.platform s₀ f.method.cls f.pc cell.cls y) →
      ∃ vm', s₀.WarmedH vm' ∧ ∀ (Q : Handler → Pre) (E : CtlPost) (d : Bool) (acts : List Action), wp (findHandler.go f a (pre ++ x :: rest)) Q E e d acts S ↔ Q (.found x.handlerPc) d acts (S.setVm vm') := by
  obtain ⟨k0, hk0⟩ := hk0
  intro pre
  induction pre with
  | nil =>
    intro S hW hcell _
    obtain ⟨k0', hk0', -⟩ := hW.alike.2.2 _ _ hk0
    obtain ⟨dk, _, _, kt, hd, _, _, _, _, hkt, _, hopen⟩ := hl.here
    obtain ⟨kt', hkt', -⟩ := hW.alike.2.2 _ _ hkt
    exact ⟨_, hW.noted hd hopen (State.rightAt_cls hl), fun Q E d acts => by
      rw [List.nil_append]
      exact gt_link hx h0 (hW.classLinks hl) hcell hobj ⟨k0', hk0'⟩ ⟨kt', hkt'⟩ (by rw [hW.alike.assignable]; exact hfit)⟩
  | cons y ys ih =>
    intro S hW hcell hpass
    obtain ⟨k0', hk0', -⟩ := hW.alike.2.2 _ _ hk0
    have hrest : ∀ z ∈ ys, gt_P e.platform s₀ f.method.cls f.pc cell.cls z := fun z hz => hpass z (List.mem_cons_of_mem _ hz)
    by_cases hcov : covers y f.pc = true
    · rcases hpass y (List.mem_cons_self ..) with h | ⟨h0', c', hl', hno⟩
      · rw [h] at hcov; cases hcov
      · obtain ⟨dk, _, _, kt, hd, _, _, _, _, hkt, _, hopen⟩ := hl'.here
        obtain ⟨kt', hkt', -⟩ := hW.alike.2.2 _ _ hkt
        obtain ⟨vm', hW', hq⟩ := ih (S.setVm (S.vm.noted f.method.cls y.catchType (.cls c'))) (hW.noted hd hopen (State.rightAt_cls hl')) hcell hrest
        exact ⟨vm', hW', fun Q E d acts => by
          rw [List.cons_append, gt_linkNo hcov h0' (hW.classLinks hl') hcell hobj ⟨k0', hk0'⟩ ⟨kt', hkt'⟩ (by rw [hW.alike.assignable]; exact hno)]
          exact hq Q E d acts⟩
    · obtain ⟨vm', hW', hq⟩ := ih S hW hcell hrest
      exact ⟨vm', hW', fun Q E d acts => by
        rw [List.cons_append, W.findHandler_go_skip (by simpa using hcov)]
        exact hq Q E d acts⟩
section GTR
variable {S : Type} {O : gx_O S} {K : gx_K} {M : gx_M} {Post : Outcome → S → Prop} {pc : Nat} {L : List (Nat × Value)} {st : List Value} {x : S} {bc bs : Nat} {a : Nat}
theorem gx_athrow (h : gx_OK O K M) (d : decode (gx_Mc M) pc = .ok (.athrow, 1)) (k : gx_T O K M Post pc L a x bc bs) : gx_G O K M Post pc L (.ref a :: st) x bc bs := by
  intro H locs ls cells slots hL hw hS e1 e2 T hT X
  obtain ⟨t, a1, b1⟩ := k H locs ls st cells slots hL hw hS e1 e2 T hT X
  refine ⟨t, ?_, b1⟩
  have hx := h.1
  have hb := h.2.1
  have hdg : decode (gx_c K).code pc = .ok (.athrow, 1) := by rw [hb]; exact d
  jvm_step X.here [X.here.top, hx, hdg, athrow.wp_sem]
  exact a1
/-- no handler here: the method throws -/
theorem gx_out (h : gx_OK O K M) (hout : (tableOf (gx_Mh M)).all (fun y => !covers y pc) = true) (k : Post (.threw a) x) : gx_T O K M Post pc L a x bc bs := by
  intro H locs ls st cells slots hL hw hS e1 e2 T hT X
  have X := stand_widen X (k := (gx_Mm M).cells) (n := (gx_Mm M).slots) (by omega) (by omega)
  obtain ⟨h1, h2, h3, h4, h5⟩ := X.leaveThrown a (g := F0 (gx_m K) pc ls st) rfl rfl rfl (outside_of_table h.2.2.2.2.2.2.2.2.2.2.2.1 hout) h.2.2.2.2.2.2.1
  refine ⟨_, h1, .threw a, h2, h3, ⟨⟨x, k, ?_, h.2.2.2.2.2.2.2.2.2.2.1 _ _ h4 h.2.2.2.2.2.2.2.1⟩, hS.F (t := T.setFrames (.throwing a :: gx_b K)) (by exact hT)⟩, locs, ⟨h4, h5⟩, hS.2.2⟩
  show gx_w O x T.heap
  rw [hT]; exact hw
/-- a row of the table that the object's class passes -/
theorem gt_P.of {e : Env} {s : State} {args : Array Value} {d : ClassId} {pc : Nat} {thrown : ClassId} {y : ExceptionTableEntry} {own name tn : String} (hpl : e.platform.magicAccessors = ({} : Platform).magicAccessors)
    (hown : s.vm.findClass own = some d) (h0 : y.catchType ≠ 0) (hlink : (Cond.classLink own y.catchType name).before args s = true) (ht : s.vm.findClass tn = some thrown)
    (hno : (Cond.not (.castable tn name)).before args s = true) : gt_P e.platform s d pc thrown y := by
  obtain ⟨c', hc', hcl⟩ := Cond.classLink_spec hown hlink e.platform hpl
  have hv := Cond.holds_not_iff.mp hno
  simp only [Cond.value, ht, hc'] at hv
  exact Or.inr ⟨h0, c', hcl, Option.some.inj hv⟩
/-- the object is caught by its class -/
theorem gx_catch (h : gx_OK O K M) (pre : List ExceptionTableEntry) (y : ExceptionTableEntry) (rest : List ExceptionTableEntry) (hs : tableOf (gx_Mh M) = pre ++ y :: rest) (hx : covers y pc = true) (h0 : y.catchType ≠ 0)
    {name C : String} (q : Cond.classLink (gx_My M).cls y.catchType name ∈ lw_all)
    (hrc : ∀ H, gx_w O x H → ∃ cell : Cell, H[a]? = some cell ∧ cell.vm.isStatics = false ∧ (gx_s K).vm.findClass C = some cell.cls)
    (hfit : ∃ c t, (gx_s K).vm.findClass C = some c ∧ (gx_s K).vm.findClass name = some t ∧ (gx_s K).vm.assignable c t = true)
    (hpass : ∀ c, (gx_s K).vm.findClass C = some c → ∀ z ∈ pre, gt_P (gx_e K).platform (gx_s K) (gx_m K).cls pc c z)
    (k : gx_G O K M Post y.handlerPc L [.ref a] x bc bs) : gx_T O K M Post pc L a x bc bs := by
  intro H locs ls st cells slots hL hw hS e1 e2 T hT X
  obtain ⟨cell, hc1, hc2, hc3⟩ := hrc H hw
  obtain ⟨c, t, f1, f2, f3⟩ := hfit
  cases f1.symm.trans hc3
  have hpl : (gx_e K).platform.magicAccessors = ({} : Platform).magicAccessors := by rw [X.admits.platform]
  obtain ⟨c', hc', hcl⟩ := Cond.classLink_spec h.2.2.2.1 (h.2.2.2.2.1 _ q) (gx_e K).platform hpl
  cases f2.symm.trans hc'
  obtain ⟨dk, _, _, kt, hd, _, _, _, _, hkt, _, hopen⟩ := hcl.here
  obtain ⟨vm', hW', hq⟩ := gt_through (e := gx_e K) (s₀ := gx_s K) (f := F0 (gx_m K) pc ls st) (a := a) (cell := cell) (VmData.ne_statics_of hc2) (Vm.classAt_of_assignable f3 ⟨kt, hkt⟩) y rest hx h0 hcl f3 pre ((T.setTop (F0 (gx_m K) pc ls st)).pushFrame (.throwing a))
    (by rw [Stand.throwing_vm]; exact X.warmed) (by rw [Stand.throwing_heap, hT]; exact hc1) (hpass _ f1)
  obtain ⟨t2, a1, b1⟩ := k H locs ls cells slots hL hw hS e1 e2 (T.setVm vm') hT (X.noted hW')
  refine ⟨t2, gt_caught (pc := y.handlerPc) (vm' := vm') X.here ?_ a1, b1⟩
  intro Q E d acts
  rw [W.findHandler_eq (meth := gx_t K) (code := gx_c K) (by rw [Stand.throwing_vm]; exact X.method') X.code, h.2.2.2.2.2.2.2.2.2.2.2.1, hs]
  exact hq Q E d acts
end GTR
