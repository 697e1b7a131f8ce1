/-! CALLS by the kit's rows, in the generic layer: nest mates, constructors, chosen methods, a superclass' method; null and references -/
section GXC
variable {S : Type} {O : gx_O S} {K : gx_K} {M : gx_M} {Post : Outcome → S → Prop} {pc : Nat} {L : List (Nat × Value)} {st : List Value} {x : S} {bc bs : Nat}
abbrev gx_then (O : gx_O S) (K : gx_K) (M N : gx_M) (Post : Outcome → S → Prop) (pc : Nat) (L : List (Nat × Value)) (st : List Value) (bc bs : Nat) : Outcome → S → Prop := fun o y => ∃ v, o = .returned v ∧ gx_G O K M Post (pc + 3) L (v.toList ++ st) y (bc - (gx_Mm N).cells) (bs - (gx_Mm N).slots)
theorem gx_metN {N : gx_M} {args : List Value} (hh : gx_Mh N = []) (k : gx_C O N args x (gx_then O K M N Post pc L st bc bs)) : Met (gx_l O) (gx_My N) (ws_ (gx_My N) (gx_Mc N) (gx_Mn N) (gx_Mr N)) (gx_Mm N) (va_Pc args (fun U => gx_w O x U.heap ∧ gx_z O U)) (gx_Q O (gx_then O K M N Post pc L st bc bs)) (gx_Mm N).cells (gx_Mm N).slots (gx_A O) := by
  have ew : gx_ws N = ws_ (gx_My N) (gx_Mc N) (gx_Mn N) (gx_Mr N) := by unfold gx_ws gx_wd; rw [hh]; rfl
  rw [← ew]
  exact gx_C.met k (fun o y q => ⟨_, q.choose_spec.1⟩)
theorem gx_thenE {N : gx_M} : ∀ v y, gx_then O K M N Post pc L st bc bs (.returned v) y → gx_G O K M Post (pc + 3) L (v.toList ++ st) y (bc - (gx_Mm N).cells) (bs - (gx_Mm N).slots) := fun v y q => by obtain ⟨v', e, q⟩ := q; cases e; exact q
abbrev gx_fix (h : gx_OK O K M) : CallFix (gx_p K) (gx_m K) (gx_c K) (gx_Mc M) (gx_Mn M) (gx_s K) (gx_a K) lw_all (gx_My M).cls := ⟨h.1, h.2.1, h.2.2.1, h.2.2.2.1, h.2.2.2.2.1⟩
theorem gx_preS (h : gx_OK O K M) {H : Heap} {args : List Value} (hw : gx_w O x H) : PreS (gx_s K) H (va_Pc args (fun U => gx_w O x U.heap ∧ gx_z O U)) args :=
  ⟨gx_blind h.2.2.2.2.2.2.2.2.2.2.1 _ _, fun U hU hW => ⟨rfl, by rw [hU]; exact hw, h.2.2.2.2.2.2.2.2.2.2.1 _ _ hW h.2.2.2.2.2.2.2.1⟩⟩
/-- a nest mate's static method -/
theorem gx_callSN (h : gx_OK O K M) (N : gx_M) {i : Nat} {host : String} (args : List Value) (q1 : va_Nw (.methodLinkNest (gx_My M).cls i (gx_My N) host) (gx_s K)) (q2 : Cond.static (gx_My N) ∈ lw_all) (q3 : Cond.initialized (gx_My N).cls ∈ lw_all) (q4 : Cond.code (gx_My N) (gx_Mc N) (gx_Mn N) (gx_Mr N) ∈ lw_all) (hh : gx_Mh N = [])
    (hd : (gx_My N).cls ≠ "java/lang/invoke/MethodHandle" ∧ (gx_My N).cls ≠ "java/lang/invoke/VarHandle" ∧ (parseMethodDescriptor (gx_My N).desc).map (fun d => d.parameters.length) = some args.length)
    (hR : (gx_Mm N).frames + 1 ≤ (gx_Mm M).frames ∧ 8 + (gx_Mn N + 11) + (gx_Mm N).locals ≤ (gx_Mm M).locals) (hbd : (gx_Mm N).cells ≤ bc ∧ (gx_Mm N).slots ≤ bs)
    (hst : (st.map fun v => v.category).sum ≤ 8) (d : decode (gx_Mc M) pc = .ok (.invokestatic i, 3))
    (k : gx_C O N args x (gx_then O K M N Post pc L st bc bs)) : gx_G O K M Post pc L (args.reverse ++ st) x bc bs := by
  have k := gx_metN hh k
  intro H locs ls c n hL hw hS e1 e2
  exact gx_back h hL hS e1 e2 hbd.1 hbd.2 (va_runSN (As := args) (rest := st) (gx_fix h) k ⟨va_cnB args.length h.2.2.2.2.1 (lw_meth q4) rfl rfl rfl q1 (h.2.2.2.2.1 _ q3) hd (by rw [h.2.2.2.2.2.2.2.2.1]; exact hR), h.2.2.2.2.1 _ q2, trivial⟩ (gx_preS h hw) rfl rfl hL.1 rfl (lv_room hst) d (by rw [h.2.2.2.2.2.2.2.2.1]; omega)) gx_thenE
/-- a constructor -/
theorem gx_callI (h : gx_OK O K M) (N : gx_M) {i b : Nat} (args : List Value) (q1 : Cond.methodLink (gx_My M).cls i (gx_My N) ∈ lw_all) (q2 : Cond.instanceMethod (gx_My N) ∈ lw_all) (q3 : Cond.initialized (gx_My N).cls ∈ lw_all) (q4 : Cond.code (gx_My N) (gx_Mc N) (gx_Mn N) none ∈ lw_all) (hh : gx_Mh N = []) (hr : gx_Mr N = none) (hy : (gx_My N).name = "<init>")
    (hd : (gx_My N).cls ≠ "java/lang/invoke/MethodHandle" ∧ (gx_My N).cls ≠ "java/lang/invoke/VarHandle" ∧ (parseMethodDescriptor (gx_My N).desc).map (fun d => d.parameters.length) = some args.length)
    (hR : (gx_Mm N).frames + 1 ≤ (gx_Mm M).frames ∧ 8 + (gx_Mn N + 11) + (gx_Mm N).locals ≤ (gx_Mm M).locals) (hbd : (gx_Mm N).cells ≤ bc ∧ (gx_Mm N).slots ≤ bs)
    (hst : (st.map fun v => v.category).sum ≤ 8) (d : decode (gx_Mc M) pc = .ok (.invokespecial i, 3))
    (k : gx_C O N (.ref b :: args) x (gx_then O K M N Post pc L st bc bs)) : gx_G O K M Post pc L (args.reverse ++ .ref b :: st) x bc bs := by
  have k := gx_metN hh k
  rw [hr] at k
  intro H locs ls c n hL hw hS e1 e2
  exact gx_back h hL hS e1 e2 hbd.1 hbd.2 (va_runI (As := args) (rest := st) (gx_fix h) k (cwI args.length h.2.2.2.2.1 (lw_meth q4) rfl rfl rfl (h.2.2.2.2.1 _ q3) (h.2.2.2.2.1 _ q1) (h.2.2.2.2.1 _ q2) hy hd (by rw [h.2.2.2.2.2.2.2.2.1]; exact hR)) (gx_preS h hw) rfl rfl hL.1 rfl (lv_room hst) d (by rw [h.2.2.2.2.2.2.2.2.1]; omega)) gx_thenE
/-- a nest mate's constructor -/
theorem gx_callIN (h : gx_OK O K M) (N : gx_M) {i b : Nat} {host : String} (args : List Value) (q1 : va_Nw (.methodLinkNest (gx_My M).cls i (gx_My N) host) (gx_s K)) (q2 : Cond.instanceMethod (gx_My N) ∈ lw_all) (q3 : Cond.initialized (gx_My N).cls ∈ lw_all) (q4 : Cond.code (gx_My N) (gx_Mc N) (gx_Mn N) none ∈ lw_all) (hh : gx_Mh N = []) (hr : gx_Mr N = none) (hy : (gx_My N).name = "<init>")
    (hd : (gx_My N).cls ≠ "java/lang/invoke/MethodHandle" ∧ (gx_My N).cls ≠ "java/lang/invoke/VarHandle" ∧ (parseMethodDescriptor (gx_My N).desc).map (fun d => d.parameters.length) = some args.length)
    (hR : (gx_Mm N).frames + 1 ≤ (gx_Mm M).frames ∧ 8 + (gx_Mn N + 11) + (gx_Mm N).locals ≤ (gx_Mm M).locals) (hbd : (gx_Mm N).cells ≤ bc ∧ (gx_Mm N).slots ≤ bs)
    (hst : (st.map fun v => v.category).sum ≤ 8) (d : decode (gx_Mc M) pc = .ok (.invokespecial i, 3))
    (k : gx_C O N (.ref b :: args) x (gx_then O K M N Post pc L st bc bs)) : gx_G O K M Post pc L (args.reverse ++ .ref b :: st) x bc bs := by
  have k := gx_metN hh k
  rw [hr] at k
  intro H locs ls c n hL hw hS e1 e2
  exact gx_back h hL hS e1 e2 hbd.1 hbd.2 (va_runIN (As := args) (rest := st) (gx_fix h) k ⟨va_cnB args.length h.2.2.2.2.1 (lw_meth q4) rfl rfl rfl q1 (h.2.2.2.2.1 _ q3) hd (by rw [h.2.2.2.2.2.2.2.2.1]; exact hR), hy, h.2.2.2.2.1 _ q2⟩ (gx_preS h hw) rfl rfl hL.1 rfl (lv_room hst) d (by rw [h.2.2.2.2.2.2.2.2.1]; omega)) gx_thenE
/-- a method that the receiver's class chooses: cw says how it is found -/
theorem gx_callU (h : gx_OK O K M) (N : gx_M) {i b : Nat} {C owner : String} {y0 : MethodName} (args : List Value) (hh : gx_Mh N = [])
    (cw : va_CU (gx_R K) (gx_s K) (gx_a K) (gx_My M).cls C owner i y0 (gx_My N) (gx_Mc N) (gx_Mn N) (gx_Mr N) (ws_ (gx_My N) (gx_Mc N) (gx_Mn N) (gx_Mr N)) (gx_Mm N) (gx_Mm N).cells (gx_Mm N).slots args.length)
    (hbd : (gx_Mm N).cells ≤ bc ∧ (gx_Mm N).slots ≤ bs)
    (hrc : ∀ H, gx_w O x H → ∃ cell : Cell, H[b]? = some cell ∧ cell.vm.isStatics = false ∧ (gx_s K).vm.findClass C = some cell.cls)
    (hst : (st.map fun v => v.category).sum ≤ 8) (d : decode (gx_Mc M) pc = .ok (.invokevirtual i, 3))
    (k : gx_C O N (.ref b :: args) x (gx_then O K M N Post pc L st bc bs)) : gx_G O K M Post pc L (args.reverse ++ .ref b :: st) x bc bs := by
  have k := gx_metN hh k
  intro H locs ls c n hL hw hS e1 e2
  exact gx_back h hL hS e1 e2 hbd.1 hbd.2 (va_runU (As := args) (rest := st) (gx_fix h) k cw ⟨gx_blind h.2.2.2.2.2.2.2.2.2.2.1 _ _, hrc H hw, fun U hU hW => ⟨rfl, by rw [hU]; exact hw, h.2.2.2.2.2.2.2.2.2.2.1 _ _ hW h.2.2.2.2.2.2.2.1⟩⟩ rfl rfl hL.1 rfl (lv_room hst) d (by rw [h.2.2.2.2.2.2.2.2.1]; omega)) gx_thenE
/-- inherited: what the reference names is what runs -/
theorem gx_cwU (h : gx_OK O K M) (N : gx_M) {i : Nat} {C : String} {y0 : MethodName} (n : Nat) (q1 : Cond.methodLink (gx_My M).cls i y0 ∈ lw_all) (q2 : Cond.sameMethod y0.cls (gx_My N).cls y0.name y0.desc ∈ lw_all) (q3 : Cond.selects C y0 (gx_My N) ∈ lw_all) (q4 : Cond.instanceMethod (gx_My N) ∈ lw_all) (q5 : Cond.initialized (gx_My N).cls ∈ lw_all) (q6 : Cond.code (gx_My N) (gx_Mc N) (gx_Mn N) (gx_Mr N) ∈ lw_all) (hy : gx_My N = ⟨(gx_My N).cls, y0.name, y0.desc⟩)
    (hd : (gx_My N).cls ≠ "java/lang/invoke/MethodHandle" ∧ (gx_My N).cls ≠ "java/lang/invoke/VarHandle" ∧ (parseMethodDescriptor y0.desc).map (fun d => d.parameters.length) = some n) (hR : (gx_Mm N).frames + 1 ≤ (gx_Mm M).frames ∧ 8 + (gx_Mn N + 11) + (gx_Mm N).locals ≤ (gx_Mm M).locals) :
    va_CU (gx_R K) (gx_s K) (gx_a K) (gx_My M).cls C (gx_My N).cls i y0 (gx_My N) (gx_Mc N) (gx_Mn N) (gx_Mr N) (ws_ (gx_My N) (gx_Mc N) (gx_Mn N) (gx_Mr N)) (gx_Mm N) (gx_Mm N).cells (gx_Mm N).slots n :=
  va_cwU n h.2.2.2.2.1 (lw_app (fun w hw => by
    simp only [List.mem_cons, List.not_mem_nil, or_false] at hw
    rcases hw with e | e | e | e | e <;> rw [e] <;> assumption) (lw_meth q6)) rfl rfl rfl hy hd (by rw [h.2.2.2.2.2.2.2.2.1]; exact hR)
/-- overriding a method with code -/
theorem gx_cwO (h : gx_OK O K M) (N : gx_M) {i : Nat} {C owner : String} {y0 : MethodName} (n : Nat) (q1 : Cond.methodLink (gx_My M).cls i y0 ∈ lw_all) (q2 : Cond.sameMethod y0.cls owner y0.name y0.desc ∈ lw_all) (q0 : Cond.instanceMethod ⟨owner, y0.name, y0.desc⟩ ∈ lw_all) (q3 : Cond.selects C y0 (gx_My N) ∈ lw_all) (q4 : Cond.instanceMethod (gx_My N) ∈ lw_all) (q5 : Cond.initialized (gx_My N).cls ∈ lw_all) (q6 : Cond.code (gx_My N) (gx_Mc N) (gx_Mn N) (gx_Mr N) ∈ lw_all)
    {b0 : ByteArray} {m0 : Nat} {r0 : Option FieldType} (q7 : Cond.code ⟨owner, y0.name, y0.desc⟩ b0 m0 r0 ∈ lw_all)
    (hd : owner ≠ "java/lang/invoke/MethodHandle" ∧ owner ≠ "java/lang/invoke/VarHandle" ∧ (parseMethodDescriptor y0.desc).map (fun d => d.parameters.length) = some n) (hR : (gx_Mm N).frames + 1 ≤ (gx_Mm M).frames ∧ 8 + (gx_Mn N + 11) + (gx_Mm N).locals ≤ (gx_Mm M).locals) :
    va_CU (gx_R K) (gx_s K) (gx_a K) (gx_My M).cls C owner i y0 (gx_My N) (gx_Mc N) (gx_Mn N) (gx_Mr N) (ws_ (gx_My N) (gx_Mc N) (gx_Mn N) (gx_Mr N)) (gx_Mm N) (gx_Mm N).cells (gx_Mm N).slots n :=
  va_cwO n h.2.2.2.2.1 (lw_app (fun w hw => by
    simp only [List.mem_cons, List.not_mem_nil, or_false] at hw
    rcases hw with e | e | e | e | e | e <;> rw [e] <;> assumption) (lw_meth q6)) rfl rfl rfl q7 hd (by rw [h.2.2.2.2.2.2.2.2.1]; exact hR)
/-- for a method without code -/
theorem gx_cwA (h : gx_OK O K M) (N : gx_M) {i : Nat} {C owner : String} {y0 : MethodName} (n : Nat) (q1 : Cond.methodLink (gx_My M).cls i y0 ∈ lw_all) (q2 : Cond.sameMethod y0.cls owner y0.name y0.desc ∈ lw_all) (q3 : Cond.selects C y0 (gx_My N) ∈ lw_all) (q4 : Cond.instanceMethod (gx_My N) ∈ lw_all) (q5 : Cond.initialized (gx_My N).cls ∈ lw_all) (q6 : Cond.code (gx_My N) (gx_Mc N) (gx_Mn N) (gx_Mr N) ∈ lw_all) (q7 : va_Nw (.declares ⟨owner, y0.name, y0.desc⟩) (gx_s K))
    (hd : owner ≠ "java/lang/invoke/MethodHandle" ∧ owner ≠ "java/lang/invoke/VarHandle" ∧ (parseMethodDescriptor y0.desc).map (fun d => d.parameters.length) = some n) (hR : (gx_Mm N).frames + 1 ≤ (gx_Mm M).frames ∧ 8 + (gx_Mn N + 11) + (gx_Mm N).locals ≤ (gx_Mm M).locals) :
    va_CU (gx_R K) (gx_s K) (gx_a K) (gx_My M).cls C owner i y0 (gx_My N) (gx_Mc N) (gx_Mn N) (gx_Mr N) (ws_ (gx_My N) (gx_Mc N) (gx_Mn N) (gx_Mr N)) (gx_Mm N) (gx_Mm N).cells (gx_Mm N).slots n :=
  va_cwA n h.2.2.2.2.1 (lw_app (fun w hw => by
    simp only [List.mem_cons, List.not_mem_nil, or_false] at hw
    rcases hw with e | e | e | e | e <;> rw [e] <;> assumption) (lw_meth q6)) rfl rfl rfl q7 hd (by rw [h.2.2.2.2.2.2.2.2.1]; exact hR)
/-- a superclass' method -/
theorem gx_callSU (h : gx_OK O K M) (N : gx_M) {i b : Nat} {C : String} {cC : ClassId} (args : List Value) (hh : gx_Mh N = []) (hat : ClassAt (gx_s K) C cC)
    (q1 : Cond.methodLink (gx_My M).cls i (gx_My N) ∈ lw_all) (q2 : Cond.sameMethod (gx_My N).cls (gx_My N).cls (gx_My N).name (gx_My N).desc ∈ lw_all) (q3 : Cond.superclass (gx_My M).cls (gx_My N).cls ∈ lw_all) (q4 : Cond.instanceMethod (gx_My N) ∈ lw_all) (q5 : Cond.initialized (gx_My N).cls ∈ lw_all) (q6 : Cond.code (gx_My N) (gx_Mc N) (gx_Mn N) (gx_Mr N) ∈ lw_all)
    (hd : (gx_My N).name ≠ "<init>" ∧ (parseMethodDescriptor (gx_My N).desc).map (fun d => d.parameters.length) = some args.length) (hR : (gx_Mm N).frames + 1 ≤ (gx_Mm M).frames ∧ 8 + (gx_Mn N + 11) + (gx_Mm N).locals ≤ (gx_Mm M).locals)
    (hbd : (gx_Mm N).cells ≤ bc ∧ (gx_Mm N).slots ≤ bs)
    (hrc : ∀ H, gx_w O x H → ∃ cell : Cell, H[b]? = some cell ∧ cell.vm.isStatics = false ∧ (gx_s K).vm.findClass C = some cell.cls)
    (hst : (st.map fun v => v.category).sum ≤ 8) (d : decode (gx_Mc M) pc = .ok (.invokespecial i, 3))
    (k : gx_C O N (.ref b :: args) x (gx_then O K M N Post pc L st bc bs)) : gx_G O K M Post pc L (args.reverse ++ .ref b :: st) x bc bs := by
  have k := gx_metN hh k
  intro H locs ls c n hL hw hS e1 e2
  refine gx_back h hL hS e1 e2 hbd.1 hbd.2 (va_runSU (As := args) (rest := st) hat (gx_fix h) k (va_cwSU args.length h.2.2.2.2.1 (lw_app (fun w hw => by
    simp only [List.mem_cons, List.not_mem_nil, or_false] at hw
    rcases hw with e | e | e | e | e <;> rw [e] <;> assumption) (lw_meth q6)) rfl rfl rfl hd (by rw [h.2.2.2.2.2.2.2.2.1]; exact hR)) ⟨gx_blind h.2.2.2.2.2.2.2.2.2.2.1 _ _, hrc H hw, fun U hU hW => ⟨rfl, by rw [hU]; exact hw, h.2.2.2.2.2.2.2.2.2.2.1 _ _ hW h.2.2.2.2.2.2.2.1⟩⟩ rfl rfl hL.1 rfl (lv_room hst) d (by rw [h.2.2.2.2.2.2.2.2.1]; omega)) gx_thenE
/-- java.lang.Object's constructor -/
theorem gx_objInit (h : gx_OK O K M) {i b : Nat} (q1 : Cond.methodLink (gx_My M).cls i Lib.objectInit ∈ lw_all) (q2 : Cond.instanceMethod Lib.objectInit ∈ lw_all) (q3 : Cond.code Lib.objectInit ⟨#[0xb1]⟩ 1 none ∈ lw_all) (hR : 1 ≤ (gx_Mm M).frames ∧ 20 ≤ (gx_Mm M).locals) (hst : (st.map fun v => v.category).sum ≤ 8) (d : decode (gx_Mc M) pc = .ok (.invokespecial i, 3))
    (k : gx_G O K M Post (pc + 3) L st x bc bs) : gx_G O K M Post pc L (.ref b :: st) x bc bs := by
  intro H locs ls c n hL hw hS e1 e2
  refine W.objInit h.1 h.2.1 h.2.2.2.1 (h.2.2.2.2.1 _ q1) (h.2.2.2.2.1 _ q2) (h.2.2.2.2.1 _ q3) rfl (by rw [h.2.2.1]; exact hL.1) rfl d (by rw [h.2.2.2.2.2.2.2.2.1]; exact hR.1) ?_ (k H locs ls c n hL hw hS e1 e2)
  rw [h.2.2.2.2.2.2.2.2.1]
  have : 2 * (F0 (gx_m K) pc ls st).monitorRoom + (st.map fun v => v.category).sum ≤ 8 := lv_room hst
  have h2 : (F0 (gx_m K) pc ls (.ref b :: st)).monitorRoom = (F0 (gx_m K) pc ls st).monitorRoom := rfl
  omega
/-! null and references -/
theorem gx_null (h : gx_OK O K M) (d : decode (gx_Mc M) pc = .ok (.aconst_null, 1)) (k : gx_G O K M Post (pc + 1) L (va_rf none :: st) x bc bs) : gx_G O K M Post pc L st x bc bs :=
  fun H locs ls c n hL hw hS e1 e2 => lv_null h.1 h.2.1 d (k H locs ls c n hL hw hS e1 e2)
theorem gx_ifnull (h : gx_OK O K M) {r : Option Nat} {off : Int} {tgt : Nat} (ht : (pc : Int) + off = (tgt : Int)) (d : decode (gx_Mc M) pc = .ok (.ifnull off, 3)) (k1 : r = none → gx_G O K M Post tgt L st x bc bs) (k2 : ¬ r = none → gx_G O K M Post (pc + 3) L st x bc bs) : gx_G O K M Post pc L (va_rf r :: st) x bc bs := by
  cases r with
  | none => exact fun H locs ls c n hL hw hS e1 e2 => lv_ifnullN h.1 h.2.1 d ht (k1 rfl H locs ls c n hL hw hS e1 e2)
  | some v => exact fun H locs ls c n hL hw hS e1 e2 => lv_ifnull h.1 h.2.1 d (k2 (by simp) H locs ls c n hL hw hS e1 e2)
theorem gx_ifnonnull (h : gx_OK O K M) {r : Option Nat} {off : Int} {tgt : Nat} (ht : (pc : Int) + off = (tgt : Int)) (d : decode (gx_Mc M) pc = .ok (.ifnonnull off, 3)) (k1 : ¬ r = none → gx_G O K M Post tgt L st x bc bs) (k2 : r = none → gx_G O K M Post (pc + 3) L st x bc bs) : gx_G O K M Post pc L (va_rf r :: st) x bc bs := by
  cases r with
  | none => exact fun H locs ls c n hL hw hS e1 e2 => lv_ifnonnullN h.1 h.2.1 d (k2 rfl H locs ls c n hL hw hS e1 e2)
  | some v => exact fun H locs ls c n hL hw hS e1 e2 => lv_ifnonnull h.1 h.2.1 d ht (k1 (by simp) H locs ls c n hL hw hS e1 e2)
theorem gx_cat (r : Option Nat) : (va_rf r).category = 1 := by cases r <;> rfl
end GXC
section GXD
variable {S : Type} {O : gx_O S} {K : gx_K} {M : gx_M} {Post : Outcome → S → Prop} {pc : Nat} {L : List (Nat × Value)} {st : List Value} {x : S} {bc bs : Nat}
theorem gx_acmp_eq (h : gx_OK O K M) {u v : Option Nat} {off : Int} {tgt : Nat} (ht : (pc : Int) + off = (tgt : Int)) (d : decode (gx_Mc M) pc = .ok (.if_acmp .eq off, 3)) (k1 : u = v → gx_G O K M Post tgt L st x bc bs) (k2 : ¬ u = v → gx_G O K M Post (pc + 3) L st x bc bs) : gx_G O K M Post pc L (va_rf v :: va_rf u :: st) x bc bs :=
  fun H locs ls c n hL hw hS e1 e2 => lv_acmp_eq h.1 h.2.1 d ht (fun q => k1 q H locs ls c n hL hw hS e1 e2) (fun q => k2 q H locs ls c n hL hw hS e1 e2)
theorem gx_acmp_ne (h : gx_OK O K M) {u v : Option Nat} {off : Int} {tgt : Nat} (ht : (pc : Int) + off = (tgt : Int)) (d : decode (gx_Mc M) pc = .ok (.if_acmp .ne off, 3)) (k1 : ¬ u = v → gx_G O K M Post tgt L st x bc bs) (k2 : u = v → gx_G O K M Post (pc + 3) L st x bc bs) : gx_G O K M Post pc L (va_rf v :: va_rf u :: st) x bc bs :=
  fun H locs ls c n hL hw hS e1 e2 => lv_acmp_ne h.1 h.2.1 d ht (fun q => k1 q H locs ls c n hL hw hS e1 e2) (fun q => k2 q H locs ls c n hL hw hS e1 e2)
/-- Math.min of two ints -/
theorem gx_min (h : gx_OK O K M) {i : Nat} {u v : Int32} (q1 : Cond.methodLink (gx_My M).cls i Lib.Math.min.name ∈ lw_all) (q2 : Cond.static Lib.Math.min.name ∈ lw_all) (q3 : Cond.initialized "java/lang/Math" ∈ lw_all) (q4 : Cond.code Lib.Math.min.name Lib.Math.min.code 2 (some .int) ∈ lw_all) (hR : 1 ≤ (gx_Mm M).frames ∧ 21 ≤ (gx_Mm M).locals) (hst : (st.map fun v => v.category).sum ≤ 8) (d : decode (gx_Mc M) pc = .ok (.invokestatic i, 3))
    (k : gx_G O K M Post (pc + 3) L (.int (if v < u then v else u) :: st) x bc bs) : gx_G O K M Post pc L (.int v :: .int u :: st) x bc bs :=
  fun H locs ls c n hL hw hS e1 e2 => va_mmin h.1 h.2.1 (h.2.2.1.trans hL.1.symm) h.2.2.2.1 (h.2.2.2.2.1 _ q1) (h.2.2.2.2.1 _ q2) (h.2.2.2.2.1 _ q3) (h.2.2.2.2.1 _ q4) (by rw [h.2.2.2.2.2.2.2.2.1]; exact hR.1) (by rw [h.2.2.2.2.2.2.2.2.1]; omega) (by rw [h.2.2.2.2.2.2.2.2.1]; omega) (by rw [h.2.2.2.2.2.2.2.2.1]; omega) d (k H locs ls c n hL hw hS e1 e2)
end GXD
