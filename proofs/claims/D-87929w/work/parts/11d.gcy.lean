/-! Object.equals: walked at the call, for no word says that java.lang.Object is initialised -/
def gy_eqN : MethodName := ⟨"java/lang/Object", "equals", "(Ljava/lang/Object;)Z"⟩
theorem gy_e0 : decode object_method_4_code 0 = .ok (.aload_n 0, 1) := by decide +kernel
theorem gy_e1 : decode object_method_4_code 1 = .ok (.aload_n 1, 1) := by decide +kernel
theorem gy_e2 : decode object_method_4_code 2 = .ok (.if_acmp .ne 7, 3) := by decide +kernel
theorem gy_e5 : decode object_method_4_code 5 = .ok (.iconst 1, 1) := by decide +kernel
theorem gy_e6 : decode object_method_4_code 6 = .ok (.goto 4, 3) := by decide +kernel
theorem gy_e9 : decode object_method_4_code 9 = .ok (.iconst 0, 1) := by decide +kernel
theorem gy_e10 : decode object_method_4_code 10 = .ok (.ireturn, 1) := by decide +kernel
theorem gy_eqBack {l : Launch} {R : Room} {p : Program} {e : Env} {below : List Frame} {s : State} {args : Array Value} (hexec : p.tables.exec = Jvm.exec) (hcode : (Cond.code gy_eqN object_method_4_code 2 (some .boolean)).before args s = true) (hfr : 1 ≤ R.frames) (hlo : 21 ≤ R.locals) {b : Nat} {v : Value} (hv : v = .null ∨ ∃ d, v = .ref d) :
    Back l R p e below s args gy_eqN 3 8 (fun _ a => a = #[.ref b, v]) (fun A _ w B => w = some (.int (if v = .ref b then 1 else 0)) ∧ B = A) := by
  intro m meth c A g ig mk a X hg hsize hdg hW hn hp
  subst hp
  obtain ⟨U, Ls, c0, s0⟩ := A
  dsimp only [Pt.U, Pt.locs, Pt.cells, Pt.slots] at X hn ⊢
  refine ⟨_, ⟨U, Ls, c0, s0⟩, X, ⟨rfl, rfl⟩, ?_⟩
  have hc1 : (Cond.code gy_eqN object_method_4_code 2 (some .boolean)).before #[] U = true := word_at X.warmed (Or.inl rfl) hcode
  obtain ⟨methO, cO, hmO, hcO, hbO, hlO, hretO, hlockO, -, -⟩ := Cond.code_spec hn hc1
  have hplain : U.plainMethod mk := State.plainMethod.of_named (x := gy_eqN) (by decide +kernel) hn hmO
  subst hg
  have hU := X.here.enter #[.ref b, v] hmO hcO hplain
  have hfe := frames_entered (s := U) (g := g) X.here.top (.java (entryFrame mk #[.ref b, v] cO.maxLocals))
  rw [doInvoke_enter (g := g) X.here.top [] hmO hcO hlockO (X.notFull (g := g) hsize hfr (by rw [hlO]; omega))]
  have hback : ((U.setTop g).pushFrame (.java (entryFrame mk #[.ref b, v] cO.maxLocals))).setFrames (.java g :: below) = U.setTop g := by
    have h := setFrames_entered (s := U) (g := g) X.here.top (.java (entryFrame mk #[.ref b, v] cO.maxLocals))
    rw [X.tail] at h
    exact h
  rw [X.tail] at hfe
  have hmU : ((U.setTop g).pushFrame (.java (entryFrame mk #[.ref b, v] cO.maxLocals))).vm.method? mk = some methO := by simpa [State.pushFrame, State.setFrames] using hmO
  have hcg : ((U.setTop g).pushFrame (.java (entryFrame mk #[.ref b, v] cO.maxLocals))).code? g.method = some c := by
    have h := X.here.code
    rw [State.code?_eq] at h ⊢
    simpa [State.pushFrame, State.setFrames] using h
  have hent : entryFrame mk #[.ref b, v] cO.maxLocals = { method := mk, pc := 0, locals := #[.val (.ref b), .val v], stack := [], locked := none } := by
    rw [hlO]
    rcases hv with rfl | ⟨d, rfl⟩ <;> rfl
  generalize ((U.setTop g).pushFrame (.java (entryFrame mk #[.ref b, v] cO.maxLocals))) = V at hU hfe hback hmU hcg ⊢
  rw [hent]
  have hvr : v.isRef = true := by rcases hv with rfl | ⟨d, rfl⟩ <;> rfl
  have fin : ∀ w : Int32, narrow .boolean (.int w) = .int w → Steps p.tables e below (V.setTop { method := mk, pc := 10, locals := #[.val (.ref b), .val v], stack := [.int w], locked := none }) (U.setTop { g with pc := g.pc + 3, stack := .int w :: g.stack }) := by
    intro w hw
    jvm_step hU [hU.top, hexec, hbO, gy_e10, hmU, hretO, hw]
    intro acts
    rw [doReturn_leave (u := V) (g := g) (f := { method := mk, pc := 10, locals := #[.val (.ref b), .val v], stack := [], locked := none }) (meth := methO) (cg := c) (ig := ig) (len := 3) acts hfe hmU hlockO rfl rfl hcg hdg, hback]
    simp
    exact Steps.refl _
  jvm_step hU [hexec, hbO, gy_e0, Value.isRef]
  jvm_step hU [hexec, hbO, gy_e1, hvr]
  have ht : ((2 : Nat) : Int) + 7 = ((9 : Nat) : Int) := by decide
  by_cases hvb : v = .ref b
  · subst hvb
    rw [if_pos rfl]
    jvm_step hU [hexec, hbO, gy_e2, Value.asRef?, Op.if_acmp.holds, ht]
    jvm_step hU [hexec, hbO, gy_e5]
    have ht2 : ((6 : Nat) : Int) + 4 = ((10 : Nat) : Int) := by decide
    jvm_step hU [hexec, hbO, gy_e6, ht2]
    exact fin 1 rfl
  · rw [if_neg hvb]
    rcases hv with rfl | ⟨d, rfl⟩
    · jvm_step hU [hexec, hbO, gy_e2, Value.asRef?, Op.if_acmp.holds, ht]
      jvm_step hU [hexec, hbO, gy_e9]
      exact fin 0 rfl
    · have hdb : ¬ b = d := fun z => hvb (by rw [z])
      have hdb' : ¬ d = b := fun z => hvb (by rw [z])
      jvm_step hU [hexec, hbO, gy_e2, Value.asRef?, Op.if_acmp.holds, ht, hdb, hdb']
      jvm_step hU [hexec, hbO, gy_e9]
      exact fin 0 rfl
theorem gx_objEq {S : Type} {O : gx_O S} {K : gx_K} {M : gx_M} {Post : Outcome → S → Prop} {pc : Nat} {L : List (Nat × Value)} {st : List Value} {x : S} {bc bs : Nat} (h : gx_OK O K M) {i b : Nat} {C : String} (q1 : Cond.methodLink (gx_My M).cls i gy_eqN ∈ lw_all) (q2 : Cond.sameMethod "java/lang/Object" "java/lang/Object" "equals" "(Ljava/lang/Object;)Z" ∈ lw_all) (q3 : Cond.selects C gy_eqN gy_eqN ∈ lw_all) (q4 : Cond.instanceMethod gy_eqN ∈ lw_all) (q6 : Cond.code gy_eqN object_method_4_code 2 (some .boolean) ∈ lw_all)
    (hR : 1 ≤ (gx_Mm M).frames ∧ 21 ≤ (gx_Mm M).locals) (hrc : ∀ H, gx_w O x H → ∃ cell : Cell, H[b]? = some cell ∧ cell.vm.isStatics = false ∧ (gx_s K).vm.findClass C = some cell.cls) (hst : (st.map fun v => v.category).sum ≤ 8) (d : decode (gx_Mc M) pc = .ok (.invokevirtual i, 3)) {v : Value} (hv : v = .null ∨ ∃ d, v = .ref d)
    (k : gx_G O K M Post (pc + 3) L (.int (if v = .ref b then 1 else 0) :: st) x bc bs) : gx_G O K M Post pc L (v :: .ref b :: st) x bc bs := by
  intro H locs ls c n hL hw hS e1 e2 T hT X
  obtain ⟨cell, c1, c2, c3⟩ := hrc H hw
  have hcode := h.2.2.2.2.1 _ q6
  have hinst := h.2.2.2.2.1 _ q4
  obtain ⟨w, vm1, B, hW1, X1, ⟨e3, e4⟩, st1⟩ := va_callVU X h.1 (C := C) (owner := "java/lang/Object") (x := gy_eqN) (y := gy_eqN) h.2.2.2.1 (h.2.2.2.2.1 _ q1) (h.2.2.2.2.1 _ q2) (va_Decl.of hinst hcode) ⟨by decide, by decide⟩ (h.2.2.2.2.1 _ q3) hinst hcode
    (gy_eqBack (b := b) (v := v) h.1 hcode (by rw [h.2.2.2.2.2.2.2.2.1]; exact hR.1) (by rw [h.2.2.2.2.2.2.2.2.1]; exact hR.2) hv) (b := b) (cellB := cell) (by rw [hT]; exact c1) c2 c3 (g := F0 (gx_m K) pc ls (v :: .ref b :: st)) rfl (by rw [h.2.2.1]; exact hL.1) (argsL := [v]) (rest := st)
    (fun sig hs => by
      have h2 : (parseMethodDescriptor gy_eqN.desc).map (fun d => d.parameters.length) = some 1 := by decide +kernel
      rw [hs] at h2
      exact (Option.some.inj h2).symm) rfl (lv_room hst) (by rw [h.2.1]; exact d) (fun _ _ => rfl)
  subst e3; subst e4
  obtain ⟨t, a1, b1⟩ := k H locs ls c n hL hw hS e1 e2 (T.setVm vm1) hT X1
  exact ⟨t, st1 t a1, b1⟩
