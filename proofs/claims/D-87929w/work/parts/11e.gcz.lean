/-! super.m() where m stands further up than the superclass -/
section GCZ
variable {p : Program} {l : Launch} {e : Env} {R : Room} {s : State} {m : MethodId} {args : Array Value} {below : List Frame} {meth : Method} {c : Code}
theorem gy_callSS {T : State} {locs : List Loc} {cells slots : Nat} (X : Stand p l e R s m args below meth c T locs cells slots) (hexec : p.tables.exec = Jvm.exec) {own : String} {index : Nat} {x y : MethodName} {bytes : ByteArray} {maxL : Nat} {ret : Option FieldType}
    (hown : s.vm.findClass own = some m.cls) (hlink : (Cond.methodLink own index x).before args s = true) (hsame : (Cond.sameMethod x.cls y.cls x.name x.desc).before args s = true) (hyx : y = ⟨y.cls, x.name, x.desc⟩) (hsup : (Cond.superclass own x.cls).before args s = true)
    (hsub : ∀ cn tn, s.vm.findClass x.cls = some cn → s.vm.findClass y.cls = some tn → s.vm.isSubclass cn tn = true)
    (hinst : (Cond.instanceMethod y).before args s = true) (hcode : (Cond.code y bytes maxL ret).before args s = true) (hno : x.name ≠ "<init>")
    {W : Nat} {Pre : Pt → Array Value → Prop} {Post : Pt → Array Value → Option Value → Pt → Prop} (hK : Back l R p e below s args y 3 W Pre Post)
    {b : Addr} {cellB : Cell} {kB : Class} (hcell : T.heap[b]? = some cellB) (hobj : cellB.vm.isStatics = false) (hkB : s.vm.classes[cellB.cls]? = some kB)
    {g : JFrame} (hg : g.method = m) (hsize : g.locals.size = c.maxLocals) {argsL rest : List Value} (hlen : ∀ sig, parseMethodDescriptor y.desc = some sig → argsL.length = sig.parameters.length)
    (hstack : g.stack = argsL.reverse ++ .ref b :: rest) (hW : 2 * g.monitorRoom + (rest.map fun v => v.category).sum ≤ W) (hdg : decode c.code g.pc = .ok (.invokespecial index, 3))
    (hpre : ∀ vm₁, s.WarmedH vm₁ → Pre ⟨T.setVm vm₁, locs, cells, slots⟩ (Value.ref b :: argsL).toArray) :
    ∃ (v : Option Value) (vm₁ : Vm) (B : Pt), s.WarmedH vm₁ ∧ Stand p l e R s m args below meth c B.U B.locs B.cells B.slots ∧ Post ⟨T.setVm vm₁, locs, cells, slots⟩ (Value.ref b :: argsL).toArray v B ∧
      ∀ target, Steps p.tables e below (B.U.setTop { g with pc := g.pc + 3, stack := v.toList ++ rest }) target → Steps p.tables e below (T.setTop g) target := by
  obtain ⟨mk, methM, hnamed, hmethM, hstM, habM⟩ := Cond.instanceMethod_spec hinst
  obtain ⟨methM', cM, hmethM', -, -, -, -, -, -, hsigM⟩ := Cond.code_spec hnamed hcode
  cases hmethM.symm.trans hmethM'
  obtain ⟨ps, dk, kp, hps, hdk, hkp, hsuper, -, -, hnid⟩ := Cond.superclass_spec hown hsup
  have hn : s.methodNamed? ⟨y.cls, x.name, x.desc⟩ = some mk := by rw [← hyx]; exact hnamed
  obtain ⟨vm₁, X₁, hstep₁⟩ := X.invokespecialUp hexec hown hlink hsame hn hmethM hstM habM hno hdk hnid hps hsuper (hsub _ _ hps (findClass_of_methodNamed hnamed)) (a := b) (cell := cellB) hcell
    (fun z h => by rw [h] at hobj; cases hobj) hkB (g := g) hg (argsL := argsL) (rest := rest) (hlen _ hsigM) hstack hdg
  obtain ⟨v, B, X', hpost, hsteps⟩ := hK m meth c ⟨T.setVm vm₁, locs, cells, slots⟩ { g with stack := rest } (.invokespecial index) mk (Value.ref b :: argsL).toArray X₁ hg hsize hdg hW (X₁.named hnamed) (hpre vm₁ X₁.warmed)
  exact ⟨v, vm₁, B, X₁.warmed, X', hpost, fun target h => hstep₁ _ (by rw [doInvoke_state]; exact hsteps.trans h)⟩
variable {H : Heap} {locs : List Loc} {cells slots : Nat}
theorem gy_runSS {x y : MethodName} {bytes cc : ByteArray} {maxL nL mc ms n index : Nat} {ret : Option FieldType} {ws : List Cond} {rm : Room} {Pc : Array Value → State → Prop} {Qc : Array Value → State → Outcome → State → Prop} {free : Addr → Prop} {Ts : List Cond} {own C : String} {cC : ClassId} {b : Addr} {As rest : List Value} {g : JFrame}
    (hat : ClassAt s C cC) (S : CallFix p m c cc nL s args Ts own) (hM : Met l y ws rm Pc Qc mc ms free)
    (hback : rm.cells = mc ∧ rm.slots = ms ∧ rm.frames + 1 ≤ R.frames ∧ 8 + (maxL + 11) + rm.locals ≤ R.locals ∧ (∀ w ∈ ws, ∀ (a' : Array Value) (U : State), s.WarmedH U.vm → w.before a' U = true) ∧ Cond.code y bytes maxL ret ∈ ws)
    (hlink : (Cond.methodLink own index x).before args s = true) (hsame : (Cond.sameMethod x.cls y.cls x.name x.desc).before args s = true) (hyx : y = ⟨y.cls, x.name, x.desc⟩) (hsup : (Cond.superclass own x.cls).before args s = true)
    (hsub : ∀ cn tn, s.vm.findClass x.cls = some cn → s.vm.findClass y.cls = some tn → s.vm.isSubclass cn tn = true)
    (hinst : (Cond.instanceMethod y).before args s = true) (hini : (Cond.initialized y.cls).before args s = true) (hcode : (Cond.code y bytes maxL ret).before args s = true) (hno : x.name ≠ "<init>") (hlen : ∀ sig, parseMethodDescriptor y.desc = some sig → n = sig.parameters.length) (hp : PreV s H C b Pc As)
    (hg : g.method = m) (hn : As.length = n) (hsize : g.locals.size = nL) (hstack : g.stack = As.reverse ++ .ref b :: rest) (hW : 2 * g.monitorRoom + (rest.map fun v => v.category).sum ≤ 8) (hdg : decode cc g.pc = .ok (.invokespecial index, 3)) (hf : cells + mc ≤ R.cells ∧ slots + ms ≤ R.slots) :
    va_Run p l e R s m args below meth c H locs cells slots mc ms g rest (Qc (Value.ref b :: As).toArray) (free) := by
  obtain ⟨hrc, hrs, hfr, hlo, hws, hcw⟩ := hback
  have hK : Back l R p e below s args y 3 8 (PreOf R mc ms Pc) (PostOf Qc mc ms free) := back_of (bytes := bytes) (maxL := maxL) (ret := ret) hM hp.1 hrc hrs hfr hlo hws hcw (fun a' U hW => word_at hW (Or.inl (by first | rfl | simp [Cond.onTables, Cond.keeps, Cond.steady])) hini)
  obtain ⟨hx, hb, hml, ho, -⟩ := S
  obtain ⟨-, ⟨cellB, hcB, hoB, hclB⟩, hPc⟩ := hp
  obtain ⟨hfc, kB, hkB, -⟩ := hat
  cases hfc.symm.trans hclB
  intro T hT X
  obtain ⟨v, vm₁, ⟨U', l2, c2, s2⟩, hW₁, X', ⟨g', mk, t, L, e1, e2, hq, h1, hL, h2, h3⟩, st⟩ := gy_callSS X hx (bytes := bytes) (maxL := maxL) (ret := ret) ho hlink hsame hyx hsup hsub hinst hcode hno hK (by rw [hT]; exact hcB) hoB hkB hg (hsize.trans hml.symm) (argsL := As) (rest := rest) (fun sig h => hn.trans (hlen sig h)) hstack hW (by rw [hb]; exact hdg)
    (fun vm₁ hW₁ => ⟨hf.1, hf.2, hPc (T.setVm vm₁) hT hW₁⟩)
  dsimp only [Pt.U, Pt.locs, Pt.cells, Pt.slots] at X' e1 e2 h1 h2 h3 st
  subst h1; subst h2; subst h3
  exact ⟨v, (T.setVm vm₁).calling g' mk (Value.ref b :: As).toArray, t, U', L, hT, X', hL, e1, e2, hq, st⟩
end GCZ
theorem gx_callSS {S : Type} {O : gx_O S} {K : gx_K} {M : gx_M} {Post : Outcome → S → Prop} {pc : Nat} {L : List (Nat × Value)} {st : List Value} {x : S} {bc bs : Nat} (h : gx_OK O K M) (N : gx_M) {i b : Nat} {C : String} {cC : ClassId} {y0 : MethodName} (args : List Value) (hh : gx_Mh N = []) (hat : ClassAt (gx_s K) C cC)
    (q1 : Cond.methodLink (gx_My M).cls i y0 ∈ lw_all) (q2 : Cond.sameMethod y0.cls (gx_My N).cls y0.name y0.desc ∈ lw_all) (hy : gx_My N = ⟨(gx_My N).cls, y0.name, y0.desc⟩) (q3 : Cond.superclass (gx_My M).cls y0.cls ∈ lw_all)
    (hsub : ∀ cn tn, (gx_s K).vm.findClass y0.cls = some cn → (gx_s K).vm.findClass (gx_My N).cls = some tn → (gx_s K).vm.isSubclass cn tn = true)
    (q4 : Cond.instanceMethod (gx_My N) ∈ lw_all) (q5 : Cond.initialized (gx_My N).cls ∈ lw_all) (q6 : Cond.code (gx_My N) (gx_Mc N) (gx_Mn N) (gx_Mr N) ∈ lw_all)
    (hd : y0.name ≠ "<init>" ∧ (parseMethodDescriptor (gx_My N).desc).map (fun d => d.parameters.length) = some args.length) (hR : (gx_Mm N).frames + 1 ≤ (gx_Mm M).frames ∧ 8 + (gx_Mn N + 11) + (gx_Mm N).locals ≤ (gx_Mm M).locals)
    (hbd : (gx_Mm N).cells ≤ bc ∧ (gx_Mm N).slots ≤ bs)
    (hrc : ∀ H, gx_w O x H → ∃ cell : Cell, H[b]? = some cell ∧ cell.vm.isStatics = false ∧ (gx_s K).vm.findClass C = some cell.cls)
    (hst : (st.map fun v => v.category).sum ≤ 8) (d : decode (gx_Mc M) pc = .ok (.invokespecial i, 3))
    (k : gx_C O N (.ref b :: args) x (gx_then O K M N Post pc L st bc bs)) : gx_G O K M Post pc L (args.reverse ++ .ref b :: st) x bc bs := by
  have k := gx_metN hh k
  intro H locs ls c n hL hw hS e1 e2
  refine gx_back h hL hS e1 e2 hbd.1 hbd.2 (gy_runSS (As := args) (rest := st) (n := args.length) hat (gx_fix h) k ⟨rfl, rfl, by rw [h.2.2.2.2.2.2.2.2.1]; exact hR.1, by rw [h.2.2.2.2.2.2.2.2.1]; exact hR.2, pay_in h.2.2.2.2.1 (lw_meth q6), List.mem_cons_self ..⟩
    (h.2.2.2.2.1 _ q1) (h.2.2.2.2.1 _ q2) hy (h.2.2.2.2.1 _ q3) hsub (h.2.2.2.2.1 _ q4) (h.2.2.2.2.1 _ q5) (h.2.2.2.2.1 _ q6) hd.1 (fun sig hs => by
      have h2 := hd.2
      rw [hs] at h2
      exact (Option.some.inj h2).symm) ⟨gx_blind h.2.2.2.2.2.2.2.2.2.2.1 _ _, hrc H hw, fun U hU hW => ⟨rfl, by rw [hU]; exact hw, h.2.2.2.2.2.2.2.2.2.2.1 _ _ hW h.2.2.2.2.2.2.2.1⟩⟩ rfl rfl hL.1 rfl (lv_room hst) d (by rw [h.2.2.2.2.2.2.2.2.1]; omega)) gx_thenE
/-- a class castable to another, both of them plain classes, is a subclass of it -/
theorem gy_sub {A : Array Value} {s : State} {a b : String} {xs xt : String} (h : va_Nw (.castable a b) s) (ha : (Cond.superclass a xs).before A s = true) (hb : (Cond.superclass b xt).before A s = true) : ∀ cn tn, s.vm.findClass a = some cn → s.vm.findClass b = some tn → s.vm.isSubclass cn tn = true := by
  intro cn tn h1 h2
  obtain ⟨cc, tt, f1, f2, f3⟩ := Cond.castable_spec (va_Nw.use (A := A) rfl h)
  cases f1.symm.trans h1
  cases f2.symm.trans h2
  obtain ⟨-, k1, -, -, g2, -, -, g5, -, -⟩ := Cond.superclass_spec h1 ha
  obtain ⟨-, k2, -, -, j2, -, -, j5, -, j7⟩ := Cond.superclass_spec h2 hb
  exact isSubclass_of_assignable g2 j2 g5 j5 j7 f3
