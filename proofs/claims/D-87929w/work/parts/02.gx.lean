/-! A GENERIC LAYER OVER W: contracts and points of a walk as predicate transformers over an abstract state x : S -/
abbrev gx_K : Type := Program × Env × Room × State × MethodId × Array Value × List Frame × Method × Code
abbrev gx_p (K : gx_K) : Program := K.1
abbrev gx_e (K : gx_K) : Env := K.2.1
abbrev gx_R (K : gx_K) : Room := K.2.2.1
abbrev gx_s (K : gx_K) : State := K.2.2.2.1
abbrev gx_m (K : gx_K) : MethodId := K.2.2.2.2.1
abbrev gx_a (K : gx_K) : Array Value := K.2.2.2.2.2.1
abbrev gx_b (K : gx_K) : List Frame := K.2.2.2.2.2.2.1
abbrev gx_t (K : gx_K) : Method := K.2.2.2.2.2.2.2.1
abbrev gx_c (K : gx_K) : Code := K.2.2.2.2.2.2.2.2
/-- a method: its name, code, locals, answer, room, handlers -/
abbrev gx_M : Type := MethodName × ByteArray × Nat × Option FieldType × Room × List (Nat × Nat × Nat × Nat)
abbrev gx_My (M : gx_M) : MethodName := M.1
abbrev gx_Mc (M : gx_M) : ByteArray := M.2.1
abbrev gx_Mn (M : gx_M) : Nat := M.2.2.1
abbrev gx_Mr (M : gx_M) : Option FieldType := M.2.2.2.1
abbrev gx_Mm (M : gx_M) : Room := M.2.2.2.2.1
abbrev gx_Mh (M : gx_M) : List (Nat × Nat × Nat × Nat) := M.2.2.2.2.2
/-- the word of its code -/
def gx_wh (y : MethodName) (b : ByteArray) (n : Nat) (r : Option FieldType) : List (Nat × Nat × Nat × Nat) → Cond
  | [] => .code y b n r
  | q :: l => .codeWith y b n r (q :: l)
def gx_wd (M : gx_M) : Cond := gx_wh (gx_My M) (gx_Mc M) (gx_Mn M) (gx_Mr M) (gx_Mh M)
abbrev gx_ws (M : gx_M) : List Cond := gx_wd M :: lw_all
theorem gx_wh_spec {y : MethodName} {b : ByteArray} {n : Nat} {r : Option FieldType} {hh : List (Nat × Nat × Nat × Nat)} {a : Array Value} {s : State} {m : MethodId} (h : (gx_wh y b n r hh).before a s = true) (hn : s.methodNamed? y = some m) :
    ∃ meth c, s.vm.method? m = some meth ∧ meth.code = some c ∧ c.code = b ∧ c.maxLocals = n ∧ meth.sig.returnType = r ∧ meth.locks = false ∧ c.exceptionTable.toList = tableOf hh ∧ parseMethodDescriptor y.desc = some meth.sig := by
  cases hh with
  | nil =>
    obtain ⟨meth, c, h1, h2, h3, h4, h5, h6, h7, h8⟩ := Cond.code_spec hn h
    refine ⟨meth, c, h1, h2, h3, h4, h5, h6, ?_, h8⟩
    have : c.exceptionTable = #[] := by simpa using h7
    rw [this]; rfl
  | cons q l =>
    obtain ⟨m', meth, c, h0, h1, h2, h3, h4, h5, h6, h7, h8⟩ := Cond.codeWith_spec h
    cases h0.symm.trans hn
    exact ⟨meth, c, h1, h2, h3, h4, h6, h7, by rw [← h5, table_eq], h8⟩
/-- a world: the launch, which cells may change, what a heap is when it holds x, what the tables say -/
abbrev gx_O (S : Type) : Type := Launch × (Nat → Prop) × (S → Heap → Prop) × (State → Prop)
abbrev gx_l {S : Type} (O : gx_O S) : Launch := O.1
abbrev gx_A {S : Type} (O : gx_O S) : Nat → Prop := O.2.1
abbrev gx_w {S : Type} (O : gx_O S) : S → Heap → Prop := O.2.2.1
abbrev gx_z {S : Type} (O : gx_O S) : State → Prop := O.2.2.2
def gx_Q {S : Type} (O : gx_O S) (Post : Outcome → S → Prop) : Array Value → State → Outcome → State → Prop := fun _ st o t =>
  (∃ x : S, Post o x ∧ gx_w O x t.heap ∧ gx_z O t) ∧ va_F (gx_A O) st t
/-- the end of a method, whether it returns or throws -/
def gx_E (first t : State) (L : List Loc) (k n : Nat) : Prop := first.WarmedH t.vm ∧ first.sameButNew ({ t with vm := first.vm } : State) L k n
def gx_MQ (below : List Frame) (Qc : Array Value → State → Outcome → State → Prop) (a : Array Value) (s : State) (mc ms : Nat) (free : Addr → Prop) : State → Prop := fun t =>
  ∃ o, t.status = .running ∧ Ended t below o ∧ Qc a s o t ∧ ∃ L, gx_E s t L mc ms ∧ ∀ q ∈ L, free q.base
/-- what holds all through a method -/
def gx_OK {S : Type} (O : gx_O S) (K : gx_K) (M : gx_M) : Prop :=
  (gx_p K).tables.exec = Jvm.exec ∧ (gx_c K).code = gx_Mc M ∧ (gx_c K).maxLocals = gx_Mn M ∧ (gx_s K).vm.findClass (gx_My M).cls = some (gx_m K).cls ∧
  (∀ w ∈ lw_all, w.before (gx_a K) (gx_s K) = true) ∧ (gx_t K).sig.returnType = gx_Mr M ∧ (gx_t K).locks = false ∧ gx_z O (gx_s K) ∧ gx_R K = gx_Mm M ∧ (gx_t K).name = (gx_My M).name ∧
  (∀ u U : State, u.WarmedH U.vm → gx_z O u → gx_z O U) ∧ (gx_c K).exceptionTable.toList = tableOf (gx_Mh M) ∧ (∃ x0 : S, gx_w O x0 (gx_s K).heap)
abbrev gx_W {S : Type} (O : gx_O S) (K : gx_K) (M : gx_M) (Post : Outcome → S → Prop) (H : Heap) (locs : List Loc) (cells slots : Nat) (g : JFrame) : Prop :=
  W (gx_p K) (gx_l O) (gx_e K) (gx_R K) (gx_s K) (gx_m K) (gx_a K) (gx_b K) (gx_t K) (gx_c K) H locs cells slots (gx_MQ (gx_b K) (gx_Q O Post) (gx_a K) (gx_s K) (gx_Mm M).cells (gx_Mm M).slots (gx_A O)) g
/-- a point of a walk -/
def gx_G {S : Type} (O : gx_O S) (K : gx_K) (M : gx_M) (Post : Outcome → S → Prop) (pc : Nat) (L : List (Nat × Value)) (st : List Value) (x : S) (bc bs : Nat) : Prop :=
  ∀ (H : Heap) (locs : List Loc) (ls : Array Slot) (cells slots : Nat), lv_has ls (gx_Mn M) L → gx_w O x H → va_S (gx_A O) (gx_s K).heap H locs → cells + bc = (gx_Mm M).cells → slots + bs = (gx_Mm M).slots →
    gx_W O K M Post H locs cells slots (F0 (gx_m K) pc ls st)
/-- a point at which the object at a is thrown -/
def gx_T {S : Type} (O : gx_O S) (K : gx_K) (M : gx_M) (Post : Outcome → S → Prop) (pc : Nat) (L : List (Nat × Value)) (a : Nat) (x : S) (bc bs : Nat) : Prop :=
  ∀ (H : Heap) (locs : List Loc) (ls : Array Slot) (st : List Value) (cells slots : Nat), lv_has ls (gx_Mn M) L → gx_w O x H → va_S (gx_A O) (gx_s K).heap H locs → cells + bc = (gx_Mm M).cells → slots + bs = (gx_Mm M).slots →
    ∀ T : State, T.heap = H → Stand (gx_p K) (gx_l O) (gx_e K) (gx_R K) (gx_s K) (gx_m K) (gx_a K) (gx_b K) (gx_t K) (gx_c K) T locs cells slots →
      ∃ t, Steps (gx_p K).tables (gx_e K) (gx_b K) ((T.setTop (F0 (gx_m K) pc ls st)).pushFrame (.throwing a)) t ∧ gx_MQ (gx_b K) (gx_Q O Post) (gx_a K) (gx_s K) (gx_Mm M).cells (gx_Mm M).slots (gx_A O) t
/-- a method's contract -/
def gx_C {S : Type} (O : gx_O S) (M : gx_M) (args : List Value) (x : S) (Post : Outcome → S → Prop) : Prop :=
  MetFree (gx_l O) (gx_My M) (headSpec (gx_ws M) (gx_Mm M)) (va_Pc args (fun U => gx_w O x U.heap ∧ gx_z O U)) (fun _ _ _ _ _ => True)
    (fun a st o t => gx_Q O Post a st o t ∧ ∃ L, gx_E st t L (gx_Mm M).cells (gx_Mm M).slots ∧ ∀ q ∈ L, (gx_A O) q.base)
theorem gx_C.mono {S : Type} {O : gx_O S} {M : gx_M} {args : List Value} {x : S} {P Q : Outcome → S → Prop} (h : gx_C O M args x P) (k : ∀ o y, P o y → Q o y) : gx_C O M args x Q := by
  intro p e h1 h2 h3 s m a below h4 h5 h6 h7
  obtain ⟨n, o, g1, g2, g3, ⟨⟨y, q2, q3⟩, q4⟩, g5⟩ := h p e h1 h2 h3 s m a below h4 h5 h6 h7
  exact ⟨n, o, g1, g2, g3, ⟨⟨y, k o y q2, q3⟩, q4⟩, g5⟩
/-- a contract whose method returns, in the kit's form -/
theorem gx_C.met {S : Type} {O : gx_O S} {M : gx_M} {args : List Value} {x : S} {P : Outcome → S → Prop} (h : gx_C O M args x P) (hr : ∀ o y, P o y → ∃ v, o = .returned v) :
    Met (gx_l O) (gx_My M) (gx_ws M) (gx_Mm M) (va_Pc args (fun U => gx_w O x U.heap ∧ gx_z O U)) (gx_Q O P) (gx_Mm M).cells (gx_Mm M).slots (gx_A O) := by
  intro p e h1 h2 h3 s m a below h4 h5 h6 h7
  obtain ⟨n, o, g1, g2, g3, ⟨⟨y, q2, q3⟩, q4⟩, L, ⟨g5, g6⟩, g7⟩ := h p e h1 h2 h3 s m a below h4 h5 h6 h7
  exact ⟨n, o, g1, g2, g3, ⟨⟨y, q2, q3⟩, q4⟩, L, ⟨hr o y q2, g5, g6⟩, g7⟩
theorem gx_C.intro {S : Type} {O : gx_O S} {M : gx_M} {args : List Value} {x : S} {Post : Outcome → S → Prop} (hz : ∀ u U : State, u.WarmedH U.vm → gx_z O u → gx_z O U)
    (hy : plainName (gx_My M).cls = true) (hl : (lg_sl args).length ≤ gx_Mn M)
    (body : ∀ K, gx_OK O K M → gx_G O K M Post 0 (lv_args 0 args) [] x (gx_Mm M).cells (gx_Mm M).slots) : gx_C O M args x Post := by
  refine MetFree.of_bodyS (code := gx_Mc M) (maxLocals := gx_Mn M) (ret := gx_Mr M) hy ?_ ?_
  · intro a s m h hn
    obtain ⟨meth, c, h1, h2, h3, h4, h5, h6, -, -⟩ := gx_wh_spec (atoms_spec (ws := gx_ws M) h _ List.mem_cons_self) hn
    exact ⟨meth, c, h1, h2, h3, h4, h5, h6⟩
  · intro p e s m a below meth c s₁ B hml hv _
    obtain ⟨rfl, hw, hz0⟩ := hv
    have hts0 := atoms_spec (ws := gx_ws M) B.pre
    have hts : ∀ w ∈ lw_all, w.before _ s = true := fun w h => hts0 w (List.mem_cons_of_mem _ h)
    have htab : c.exceptionTable.toList = tableOf (gx_Mh M) := by
      obtain ⟨meth', c', h1, h2, -, -, -, -, h7, -⟩ := gx_wh_spec (hts0 _ List.mem_cons_self) B.named
      cases B.method.symm.trans h1
      cases (Stand.of_body B).code.symm.trans h2
      exact h7
    have hh0 : s₁.heap = s.heap := by rw [B.state]; rfl
    have k := body (p, e, gx_Mm M, s, m, args.toArray, below, meth, c) ⟨B.exec, B.bytes, hml, findClass_of_methodNamed B.named, hts, B.returns, B.notSynchronized, hz0, rfl, (name_of_methodNamed B.named B.method).1, hz, htab, x, hw⟩ s.heap [] _ 0 0 (lv_entry args hl) hw va_S.rf (Nat.zero_add _) (Nat.zero_add _)
    rw [← lg_entry_eq] at k
    obtain ⟨t, a1, o, b1, b2, b3⟩ := k s₁ hh0 (Stand.of_body B)
    exact ⟨t, o, a1, b1, b2, ⟨b3.1, b3.2⟩⟩
theorem gx_wmono {p : Program} {l : Launch} {e : Env} {R : Room} {s : State} {m : MethodId} {args : Array Value} {below : List Frame} {meth : Method} {c : Code} {H : Heap} {locs : List Loc} {cells slots : Nat} {Q Q' : State → Prop} {g : JFrame} (h : ∀ t, Q t → Q' t) (k : W p l e R s m args below meth c H locs cells slots Q g) : W p l e R s m args below meth c H locs cells slots Q' g := by
  intro T hT X
  obtain ⟨t, a, b⟩ := k T hT X
  exact ⟨t, a, h t b⟩
theorem gx_ret {below : List Frame} {Qc : Array Value → State → Outcome → State → Prop} {a : Array Value} {s : State} {mc ms : Nat} {free : Addr → Prop} (t : State) (h : MQ below Qc a s mc ms free t) : gx_MQ below Qc a s mc ms free t := by
  obtain ⟨o, h1, h2, h3, L, h4, h5⟩ := h
  exact ⟨o, h1, h2, h3, L, ⟨h4.2.1, h4.2.2⟩, h5⟩
section GXR
variable {S : Type} {O : gx_O S} {K : gx_K} {M : gx_M} {Post : Outcome → S → Prop} {pc : Nat} {L : List (Nat × Value)} {st : List Value} {x : S} {bc bs : Nat}
/-- fewer locals, in another order -/
theorem gx_sub {L' : List (Nat × Value)} (ks : List Nat) (hl : lv_pick L ks = L') (k : gx_G O K M Post pc L' st x bc bs) : gx_G O K M Post pc L st x bc bs :=
  fun H locs ls c n hL hw hS e1 e2 => k H locs ls c n (lv_sub hL ks hl) hw hS e1 e2
theorem gx_iconst (h : gx_OK O K M) {n : Int} {v : Int32} (d : decode (gx_Mc M) pc = .ok (.iconst n, 1)) (hv : Int32.ofInt n = v) (k : gx_G O K M Post (pc + 1) L (.int v :: st) x bc bs) : gx_G O K M Post pc L st x bc bs :=
  fun H locs ls c n hL hw hS e1 e2 => lv_iconst h.1 h.2.1 d hv (k H locs ls c n hL hw hS e1 e2)
theorem gx_bipush (h : gx_OK O K M) {n : Int} {v : Int32} (d : decode (gx_Mc M) pc = .ok (.bipush n, 2)) (hv : (Int8.ofInt n).toInt32 = v) (k : gx_G O K M Post (pc + 2) L (.int v :: st) x bc bs) : gx_G O K M Post pc L st x bc bs :=
  fun H locs ls c n hL hw hS e1 e2 => lv_bipush h.1 h.2.1 d hv (k H locs ls c n hL hw hS e1 e2)
theorem gx_sipush (h : gx_OK O K M) {n : Int} {v : Int32} (d : decode (gx_Mc M) pc = .ok (.sipush n, 3)) (hv : (Int16.ofInt n).toInt32 = v) (k : gx_G O K M Post (pc + 3) L (.int v :: st) x bc bs) : gx_G O K M Post pc L st x bc bs :=
  fun H locs ls c n hL hw hS e1 e2 => lv_sipush h.1 h.2.1 d hv (k H locs ls c n hL hw hS e1 e2)
theorem gx_ldc (h : gx_OK O K M) {i : Nat} {v : Int32} (q : Cond.constant (gx_My M).cls i v ∈ lw_all) (d : decode (gx_Mc M) pc = .ok (.ldc i, 2)) (k : gx_G O K M Post (pc + 2) L (.int v :: st) x bc bs) : gx_G O K M Post pc L st x bc bs :=
  fun H locs ls c n hL hw hS e1 e2 => lv_ldc h.1 h.2.1 h.2.2.2.1 (h.2.2.2.2.1 _ q) d (k H locs ls c n hL hw hS e1 e2)
theorem gx_ldc2 (h : gx_OK O K M) {i : Nat} {v : Int64} (q : Cond.constantLong (gx_My M).cls i v ∈ lw_all) (d : decode (gx_Mc M) pc = .ok (.ldc2_w i, 3)) (k : gx_G O K M Post (pc + 3) L (.long v :: st) x bc bs) : gx_G O K M Post pc L st x bc bs :=
  fun H locs ls c n hL hw hS e1 e2 => lv_ldc2 h.1 h.2.1 h.2.2.2.1 (h.2.2.2.2.1 _ q) d (k H locs ls c n hL hw hS e1 e2)
theorem gx_iload_n (h : gx_OK O K M) {i : Fin 4} {v : Int32} (j : Nat) (hj : L[j]? = some ((i : Nat), .int v)) (d : decode (gx_Mc M) pc = .ok (.iload_n i, 1)) (k : gx_G O K M Post (pc + 1) L (.int v :: st) x bc bs) : gx_G O K M Post pc L st x bc bs :=
  fun H locs ls c n hL hw hS e1 e2 => lv_iload_n h.1 h.2.1 d rfl (lv_at hL j hj) (k H locs ls c n hL hw hS e1 e2)
theorem gx_iload (h : gx_OK O K M) {i : Nat} {v : Int32} (j : Nat) (hj : L[j]? = some (i, .int v)) (d : decode (gx_Mc M) pc = .ok (.iload i, 2)) (k : gx_G O K M Post (pc + 2) L (.int v :: st) x bc bs) : gx_G O K M Post pc L st x bc bs :=
  fun H locs ls c n hL hw hS e1 e2 => lv_iload h.1 h.2.1 d (lv_at hL j hj) (k H locs ls c n hL hw hS e1 e2)
theorem gx_lload_n (h : gx_OK O K M) {i : Fin 4} {v : Int64} (j : Nat) (hj : L[j]? = some ((i : Nat), .long v)) (d : decode (gx_Mc M) pc = .ok (.lload_n i, 1)) (k : gx_G O K M Post (pc + 1) L (.long v :: st) x bc bs) : gx_G O K M Post pc L st x bc bs :=
  fun H locs ls c n hL hw hS e1 e2 => lv_lload_n h.1 h.2.1 d rfl (lv_at hL j hj) (k H locs ls c n hL hw hS e1 e2)
theorem gx_aload_n (h : gx_OK O K M) {i : Fin 4} {v : Nat} (j : Nat) (hj : L[j]? = some ((i : Nat), .ref v)) (d : decode (gx_Mc M) pc = .ok (.aload_n i, 1)) (k : gx_G O K M Post (pc + 1) L (.ref v :: st) x bc bs) : gx_G O K M Post pc L st x bc bs :=
  fun H locs ls c n hL hw hS e1 e2 => lv_aload_n h.1 h.2.1 d rfl (lv_at hL j hj) (k H locs ls c n hL hw hS e1 e2)
theorem gx_aload (h : gx_OK O K M) {i : Nat} {v : Nat} (j : Nat) (hj : L[j]? = some (i, .ref v)) (d : decode (gx_Mc M) pc = .ok (.aload i, 2)) (k : gx_G O K M Post (pc + 2) L (.ref v :: st) x bc bs) : gx_G O K M Post pc L st x bc bs :=
  fun H locs ls c n hL hw hS e1 e2 => lv_aload h.1 h.2.1 d (lv_at hL j hj) (k H locs ls c n hL hw hS e1 e2)
/-- a reference or null -/
theorem gx_aload_nq (h : gx_OK O K M) {i : Fin 4} {r : Option Nat} (j : Nat) (hj : L[j]? = some ((i : Nat), va_rf r)) (d : decode (gx_Mc M) pc = .ok (.aload_n i, 1)) (k : gx_G O K M Post (pc + 1) L (va_rf r :: st) x bc bs) : gx_G O K M Post pc L st x bc bs := by
  cases r with
  | none => exact fun H locs ls c n hL hw hS e1 e2 => lv_aload_nN h.1 h.2.1 d rfl (lv_at hL j hj) (k H locs ls c n hL hw hS e1 e2)
  | some v => exact fun H locs ls c n hL hw hS e1 e2 => lv_aload_n h.1 h.2.1 d rfl (lv_at hL j hj) (k H locs ls c n hL hw hS e1 e2)
theorem gx_aloadq (h : gx_OK O K M) {i : Nat} {r : Option Nat} (j : Nat) (hj : L[j]? = some (i, va_rf r)) (d : decode (gx_Mc M) pc = .ok (.aload i, 2)) (k : gx_G O K M Post (pc + 2) L (va_rf r :: st) x bc bs) : gx_G O K M Post pc L st x bc bs := by
  cases r with
  | none => exact fun H locs ls c n hL hw hS e1 e2 => lv_aloadN h.1 h.2.1 d (lv_at hL j hj) (k H locs ls c n hL hw hS e1 e2)
  | some v => exact fun H locs ls c n hL hw hS e1 e2 => lv_aload h.1 h.2.1 d (lv_at hL j hj) (k H locs ls c n hL hw hS e1 e2)
theorem gx_istore_n (h : gx_OK O K M) {i : Fin 4} {v : Int32} {L' : List (Nat × Value)} (hn : (i : Nat) < gx_Mn M) (hl : ((i : Nat), Value.int v) :: L.filter (fun q => !(q.1 == (i : Nat)) && !(q.1 + 1 == (i : Nat) && q.2.category == 2)) = L') (d : decode (gx_Mc M) pc = .ok (.istore_n i, 1)) (k : gx_G O K M Post (pc + 1) L' st x bc bs) : gx_G O K M Post pc L (.int v :: st) x bc bs :=
  fun H locs ls c n hL hw hS e1 e2 => lv_istore_n h.1 h.2.1 d rfl hL hn hl (fun ls' hL' => k H locs ls' c n hL' hw hS e1 e2)
theorem gx_istore (h : gx_OK O K M) {i : Nat} {v : Int32} {L' : List (Nat × Value)} (hn : i < gx_Mn M) (hl : (i, Value.int v) :: L.filter (fun q => !(q.1 == i) && !(q.1 + 1 == i && q.2.category == 2)) = L') (d : decode (gx_Mc M) pc = .ok (.istore i, 2)) (k : gx_G O K M Post (pc + 2) L' st x bc bs) : gx_G O K M Post pc L (.int v :: st) x bc bs :=
  fun H locs ls c n hL hw hS e1 e2 => lv_istore h.1 h.2.1 d hL hn hl (fun ls' hL' => k H locs ls' c n hL' hw hS e1 e2)
theorem gx_astore_n (h : gx_OK O K M) {i : Fin 4} {v : Nat} {L' : List (Nat × Value)} (hn : (i : Nat) < gx_Mn M) (hl : ((i : Nat), Value.ref v) :: L.filter (fun q => !(q.1 == (i : Nat)) && !(q.1 + 1 == (i : Nat) && q.2.category == 2)) = L') (d : decode (gx_Mc M) pc = .ok (.astore_n i, 1)) (k : gx_G O K M Post (pc + 1) L' st x bc bs) : gx_G O K M Post pc L (.ref v :: st) x bc bs :=
  fun H locs ls c n hL hw hS e1 e2 => lv_astore_n h.1 h.2.1 d rfl hL hn hl (fun ls' hL' => k H locs ls' c n hL' hw hS e1 e2)
theorem gx_astore (h : gx_OK O K M) {i : Nat} {v : Nat} {L' : List (Nat × Value)} (hn : i < gx_Mn M) (hl : (i, Value.ref v) :: L.filter (fun q => !(q.1 == i) && !(q.1 + 1 == i && q.2.category == 2)) = L') (d : decode (gx_Mc M) pc = .ok (.astore i, 2)) (k : gx_G O K M Post (pc + 2) L' st x bc bs) : gx_G O K M Post pc L (.ref v :: st) x bc bs :=
  fun H locs ls c n hL hw hS e1 e2 => lv_astore h.1 h.2.1 d hL hn hl (fun ls' hL' => k H locs ls' c n hL' hw hS e1 e2)
theorem gx_astore_nq (h : gx_OK O K M) {i : Fin 4} {r : Option Nat} {L' : List (Nat × Value)} (hn : (i : Nat) < gx_Mn M) (hl : ((i : Nat), va_rf r) :: L.filter (fun q => !(q.1 == (i : Nat)) && !(q.1 + 1 == (i : Nat) && q.2.category == 2)) = L') (d : decode (gx_Mc M) pc = .ok (.astore_n i, 1)) (k : gx_G O K M Post (pc + 1) L' st x bc bs) : gx_G O K M Post pc L (va_rf r :: st) x bc bs := by
  cases r with
  | none => exact fun H locs ls c n hL hw hS e1 e2 => lv_astore_nN h.1 h.2.1 d rfl hL hn hl (fun ls' hL' => k H locs ls' c n hL' hw hS e1 e2)
  | some v => exact fun H locs ls c n hL hw hS e1 e2 => lv_astore_n h.1 h.2.1 d rfl hL hn hl (fun ls' hL' => k H locs ls' c n hL' hw hS e1 e2)
theorem gx_astoreq (h : gx_OK O K M) {i : Nat} {r : Option Nat} {L' : List (Nat × Value)} (hn : i < gx_Mn M) (hl : (i, va_rf r) :: L.filter (fun q => !(q.1 == i) && !(q.1 + 1 == i && q.2.category == 2)) = L') (d : decode (gx_Mc M) pc = .ok (.astore i, 2)) (k : gx_G O K M Post (pc + 2) L' st x bc bs) : gx_G O K M Post pc L (va_rf r :: st) x bc bs := by
  cases r with
  | none => exact fun H locs ls c n hL hw hS e1 e2 => lv_astoreN h.1 h.2.1 d hL hn hl (fun ls' hL' => k H locs ls' c n hL' hw hS e1 e2)
  | some v => exact fun H locs ls c n hL hw hS e1 e2 => lv_astore h.1 h.2.1 d hL hn hl (fun ls' hL' => k H locs ls' c n hL' hw hS e1 e2)
theorem gx_iinc (h : gx_OK O K M) {i : Nat} {z : Int} {u v : Int32} {L' : List (Nat × Value)} (j : Nat) (hj : L[j]? = some (i, .int u)) (hv : u + Int32.ofInt z = v) (hn : i < gx_Mn M) (hl : (i, Value.int v) :: L.filter (fun q => !(q.1 == i) && !(q.1 + 1 == i && q.2.category == 2)) = L') (d : decode (gx_Mc M) pc = .ok (.iinc i z, 3)) (k : gx_G O K M Post (pc + 3) L' st x bc bs) : gx_G O K M Post pc L st x bc bs :=
  fun H locs ls c n hL hw hS e1 e2 => lv_iinc h.1 h.2.1 d hL hj hv hn hl (fun ls' hL' => k H locs ls' c n hL' hw hS e1 e2)
theorem gx_iadd (h : gx_OK O K M) {u v : Int32} (d : decode (gx_Mc M) pc = .ok (.iadd, 1)) (k : gx_G O K M Post (pc + 1) L (.int (u + v) :: st) x bc bs) : gx_G O K M Post pc L (.int v :: .int u :: st) x bc bs :=
  fun H locs ls c n hL hw hS e1 e2 => lv_iadd h.1 h.2.1 d (k H locs ls c n hL hw hS e1 e2)
theorem gx_isub (h : gx_OK O K M) {u v : Int32} (d : decode (gx_Mc M) pc = .ok (.isub, 1)) (k : gx_G O K M Post (pc + 1) L (.int (u - v) :: st) x bc bs) : gx_G O K M Post pc L (.int v :: .int u :: st) x bc bs :=
  fun H locs ls c n hL hw hS e1 e2 => lv_isub h.1 h.2.1 d (k H locs ls c n hL hw hS e1 e2)
theorem gx_imul (h : gx_OK O K M) {u v : Int32} (d : decode (gx_Mc M) pc = .ok (.imul, 1)) (k : gx_G O K M Post (pc + 1) L (.int (u * v) :: st) x bc bs) : gx_G O K M Post pc L (.int v :: .int u :: st) x bc bs :=
  fun H locs ls c n hL hw hS e1 e2 => lv_imul h.1 h.2.1 d (k H locs ls c n hL hw hS e1 e2)
theorem gx_idiv (h : gx_OK O K M) {u v : Int32} (hv : ¬ v = 0) (d : decode (gx_Mc M) pc = .ok (.idiv, 1)) (k : gx_G O K M Post (pc + 1) L (.int (u / v) :: st) x bc bs) : gx_G O K M Post pc L (.int v :: .int u :: st) x bc bs :=
  fun H locs ls c n hL hw hS e1 e2 => lv_idiv h.1 h.2.1 d hv (k H locs ls c n hL hw hS e1 e2)
theorem gx_ineg (h : gx_OK O K M) {u : Int32} (d : decode (gx_Mc M) pc = .ok (.ineg, 1)) (k : gx_G O K M Post (pc + 1) L (.int (-u) :: st) x bc bs) : gx_G O K M Post pc L (.int u :: st) x bc bs :=
  fun H locs ls c n hL hw hS e1 e2 => lv_ineg h.1 h.2.1 d (k H locs ls c n hL hw hS e1 e2)
theorem gx_iand (h : gx_OK O K M) {u v : Int32} (d : decode (gx_Mc M) pc = .ok (.iand, 1)) (k : gx_G O K M Post (pc + 1) L (.int (u &&& v) :: st) x bc bs) : gx_G O K M Post pc L (.int v :: .int u :: st) x bc bs :=
  fun H locs ls c n hL hw hS e1 e2 => lv_iand h.1 h.2.1 d (k H locs ls c n hL hw hS e1 e2)
theorem gx_ladd (h : gx_OK O K M) {u v : Int64} (d : decode (gx_Mc M) pc = .ok (.ladd, 1)) (k : gx_G O K M Post (pc + 1) L (.long (u + v) :: st) x bc bs) : gx_G O K M Post pc L (.long v :: .long u :: st) x bc bs :=
  fun H locs ls c n hL hw hS e1 e2 => lv_ladd h.1 h.2.1 d (k H locs ls c n hL hw hS e1 e2)
theorem gx_land (h : gx_OK O K M) {u v : Int64} (d : decode (gx_Mc M) pc = .ok (.land, 1)) (k : gx_G O K M Post (pc + 1) L (.long (u &&& v) :: st) x bc bs) : gx_G O K M Post pc L (.long v :: .long u :: st) x bc bs :=
  fun H locs ls c n hL hw hS e1 e2 => lv_land h.1 h.2.1 d (k H locs ls c n hL hw hS e1 e2)
theorem gx_lor (h : gx_OK O K M) {u v : Int64} (d : decode (gx_Mc M) pc = .ok (.lor, 1)) (k : gx_G O K M Post (pc + 1) L (.long (u ||| v) :: st) x bc bs) : gx_G O K M Post pc L (.long v :: .long u :: st) x bc bs :=
  fun H locs ls c n hL hw hS e1 e2 => lv_lor h.1 h.2.1 d (k H locs ls c n hL hw hS e1 e2)
theorem gx_lshr (h : gx_OK O K M) {u : Int64} {v : Int32} (d : decode (gx_Mc M) pc = .ok (.lshr, 1)) (k : gx_G O K M Post (pc + 1) L (.long (u >>> (v.toInt64 &&& 63)) :: st) x bc bs) : gx_G O K M Post pc L (.int v :: .long u :: st) x bc bs :=
  fun H locs ls c n hL hw hS e1 e2 => lv_lshr h.1 h.2.1 d rfl (k H locs ls c n hL hw hS e1 e2)
theorem gx_lshl (h : gx_OK O K M) {u : Int64} {v : Int32} (d : decode (gx_Mc M) pc = .ok (.lshl, 1)) (k : gx_G O K M Post (pc + 1) L (.long (u <<< (v.toInt64 &&& 63)) :: st) x bc bs) : gx_G O K M Post pc L (.int v :: .long u :: st) x bc bs :=
  fun H locs ls c n hL hw hS e1 e2 => lv_lshl h.1 h.2.1 d rfl (k H locs ls c n hL hw hS e1 e2)
theorem gx_i2l (h : gx_OK O K M) {u : Int32} (d : decode (gx_Mc M) pc = .ok (.i2l, 1)) (k : gx_G O K M Post (pc + 1) L (.long u.toInt64 :: st) x bc bs) : gx_G O K M Post pc L (.int u :: st) x bc bs :=
  fun H locs ls c n hL hw hS e1 e2 => lv_i2l h.1 h.2.1 d rfl (k H locs ls c n hL hw hS e1 e2)
theorem gx_l2i (h : gx_OK O K M) {u : Int64} (d : decode (gx_Mc M) pc = .ok (.l2i, 1)) (k : gx_G O K M Post (pc + 1) L (.int u.toInt32 :: st) x bc bs) : gx_G O K M Post pc L (.long u :: st) x bc bs :=
  fun H locs ls c n hL hw hS e1 e2 => lv_l2i h.1 h.2.1 d rfl (k H locs ls c n hL hw hS e1 e2)
theorem gx_i2b (h : gx_OK O K M) {u : Int32} (d : decode (gx_Mc M) pc = .ok (.i2b, 1)) (k : gx_G O K M Post (pc + 1) L (.int u.toInt8.toInt32 :: st) x bc bs) : gx_G O K M Post pc L (.int u :: st) x bc bs :=
  fun H locs ls c n hL hw hS e1 e2 => lv_i2b h.1 h.2.1 d rfl (k H locs ls c n hL hw hS e1 e2)
theorem gx_dup (h : gx_OK O K M) {v : Value} (hv : v.category = 1) (d : decode (gx_Mc M) pc = .ok (.dup, 1)) (k : gx_G O K M Post (pc + 1) L (v :: v :: st) x bc bs) : gx_G O K M Post pc L (v :: st) x bc bs :=
  fun H locs ls c n hL hw hS e1 e2 => lv_dup h.1 h.2.1 d hv (k H locs ls c n hL hw hS e1 e2)
theorem gx_pop (h : gx_OK O K M) {v : Value} (hv : v.category = 1) (d : decode (gx_Mc M) pc = .ok (.pop, 1)) (k : gx_G O K M Post (pc + 1) L st x bc bs) : gx_G O K M Post pc L (v :: st) x bc bs :=
  fun H locs ls c n hL hw hS e1 e2 => lv_pop h.1 h.2.1 d hv (k H locs ls c n hL hw hS e1 e2)
theorem gx_dup2 (h : gx_OK O K M) {u v : Value} (hu : u.category = 1) (hv : v.category = 1) (d : decode (gx_Mc M) pc = .ok (.dup2, 1)) (k : gx_G O K M Post (pc + 1) L (u :: v :: u :: v :: st) x bc bs) : gx_G O K M Post pc L (u :: v :: st) x bc bs :=
  fun H locs ls c n hL hw hS e1 e2 => lv_dup2_11 h.1 h.2.1 d hu hv (k H locs ls c n hL hw hS e1 e2)
theorem gx_dup_x1 (h : gx_OK O K M) {u v : Value} (hu : u.category = 1) (hv : v.category = 1) (d : decode (gx_Mc M) pc = .ok (.dup_x1, 1)) (k : gx_G O K M Post (pc + 1) L (u :: v :: u :: st) x bc bs) : gx_G O K M Post pc L (u :: v :: st) x bc bs :=
  fun H locs ls c n hL hw hS e1 e2 => lv_dup_x1 h.1 h.2.1 d hu hv (k H locs ls c n hL hw hS e1 e2)
theorem gx_goto (h : gx_OK O K M) {off : Int} {tgt : Nat} (ht : (pc : Int) + off = (tgt : Int)) (d : decode (gx_Mc M) pc = .ok (.goto off, 3)) (k : gx_G O K M Post tgt L st x bc bs) : gx_G O K M Post pc L st x bc bs :=
  fun H locs ls c n hL hw hS e1 e2 => lv_goto h.1 h.2.1 d ht (k H locs ls c n hL hw hS e1 e2)
theorem gx_if_eq (h : gx_OK O K M) {u : Int32} {off : Int} {tgt : Nat} (ht : (pc : Int) + off = (tgt : Int)) (d : decode (gx_Mc M) pc = .ok (.ifCond .eq off, 3)) (k1 : u = 0 → gx_G O K M Post tgt L st x bc bs) (k2 : ¬ u = 0 → gx_G O K M Post (pc + 3) L st x bc bs) : gx_G O K M Post pc L (.int u :: st) x bc bs :=
  fun H locs ls c n hL hw hS e1 e2 => lv_if_eq h.1 h.2.1 d ht (fun q => k1 q H locs ls c n hL hw hS e1 e2) (fun q => k2 q H locs ls c n hL hw hS e1 e2)
theorem gx_if_ne (h : gx_OK O K M) {u : Int32} {off : Int} {tgt : Nat} (ht : (pc : Int) + off = (tgt : Int)) (d : decode (gx_Mc M) pc = .ok (.ifCond .ne off, 3)) (k1 : ¬ u = 0 → gx_G O K M Post tgt L st x bc bs) (k2 : u = 0 → gx_G O K M Post (pc + 3) L st x bc bs) : gx_G O K M Post pc L (.int u :: st) x bc bs :=
  fun H locs ls c n hL hw hS e1 e2 => lv_if_ne h.1 h.2.1 d ht (fun q => k1 q H locs ls c n hL hw hS e1 e2) (fun q => k2 q H locs ls c n hL hw hS e1 e2)
theorem gx_if_lt (h : gx_OK O K M) {u : Int32} {off : Int} {tgt : Nat} (ht : (pc : Int) + off = (tgt : Int)) (d : decode (gx_Mc M) pc = .ok (.ifCond .lt off, 3)) (k1 : u < 0 → gx_G O K M Post tgt L st x bc bs) (k2 : ¬ u < 0 → gx_G O K M Post (pc + 3) L st x bc bs) : gx_G O K M Post pc L (.int u :: st) x bc bs :=
  fun H locs ls c n hL hw hS e1 e2 => lv_if_lt h.1 h.2.1 d ht (fun q => k1 q H locs ls c n hL hw hS e1 e2) (fun q => k2 q H locs ls c n hL hw hS e1 e2)
theorem gx_if_ge (h : gx_OK O K M) {u : Int32} {off : Int} {tgt : Nat} (ht : (pc : Int) + off = (tgt : Int)) (d : decode (gx_Mc M) pc = .ok (.ifCond .ge off, 3)) (k1 : 0 ≤ u → gx_G O K M Post tgt L st x bc bs) (k2 : ¬ 0 ≤ u → gx_G O K M Post (pc + 3) L st x bc bs) : gx_G O K M Post pc L (.int u :: st) x bc bs :=
  fun H locs ls c n hL hw hS e1 e2 => lv_if_ge h.1 h.2.1 d ht (fun q => k1 q H locs ls c n hL hw hS e1 e2) (fun q => k2 q H locs ls c n hL hw hS e1 e2)
theorem gx_if_gt (h : gx_OK O K M) {u : Int32} {off : Int} {tgt : Nat} (ht : (pc : Int) + off = (tgt : Int)) (d : decode (gx_Mc M) pc = .ok (.ifCond .gt off, 3)) (k1 : 0 < u → gx_G O K M Post tgt L st x bc bs) (k2 : ¬ 0 < u → gx_G O K M Post (pc + 3) L st x bc bs) : gx_G O K M Post pc L (.int u :: st) x bc bs :=
  fun H locs ls c n hL hw hS e1 e2 => lv_if_gt h.1 h.2.1 d ht (fun q => k1 q H locs ls c n hL hw hS e1 e2) (fun q => k2 q H locs ls c n hL hw hS e1 e2)
theorem gx_if_le (h : gx_OK O K M) {u : Int32} {off : Int} {tgt : Nat} (ht : (pc : Int) + off = (tgt : Int)) (d : decode (gx_Mc M) pc = .ok (.ifCond .le off, 3)) (k1 : u ≤ 0 → gx_G O K M Post tgt L st x bc bs) (k2 : ¬ u ≤ 0 → gx_G O K M Post (pc + 3) L st x bc bs) : gx_G O K M Post pc L (.int u :: st) x bc bs :=
  fun H locs ls c n hL hw hS e1 e2 => lv_if_le h.1 h.2.1 d ht (fun q => k1 q H locs ls c n hL hw hS e1 e2) (fun q => k2 q H locs ls c n hL hw hS e1 e2)
theorem gx_icmp_eq (h : gx_OK O K M) {u v : Int32} {off : Int} {tgt : Nat} (ht : (pc : Int) + off = (tgt : Int)) (d : decode (gx_Mc M) pc = .ok (.if_icmp .eq off, 3)) (k1 : u = v → gx_G O K M Post tgt L st x bc bs) (k2 : ¬ u = v → gx_G O K M Post (pc + 3) L st x bc bs) : gx_G O K M Post pc L (.int v :: .int u :: st) x bc bs :=
  fun H locs ls c n hL hw hS e1 e2 => lv_icmp_eq h.1 h.2.1 d ht (fun q => k1 q H locs ls c n hL hw hS e1 e2) (fun q => k2 q H locs ls c n hL hw hS e1 e2)
theorem gx_icmp_ne (h : gx_OK O K M) {u v : Int32} {off : Int} {tgt : Nat} (ht : (pc : Int) + off = (tgt : Int)) (d : decode (gx_Mc M) pc = .ok (.if_icmp .ne off, 3)) (k1 : ¬ u = v → gx_G O K M Post tgt L st x bc bs) (k2 : u = v → gx_G O K M Post (pc + 3) L st x bc bs) : gx_G O K M Post pc L (.int v :: .int u :: st) x bc bs :=
  fun H locs ls c n hL hw hS e1 e2 => lv_icmp_ne h.1 h.2.1 d ht (fun q => k1 q H locs ls c n hL hw hS e1 e2) (fun q => k2 q H locs ls c n hL hw hS e1 e2)
theorem gx_icmp_lt (h : gx_OK O K M) {u v : Int32} {off : Int} {tgt : Nat} (ht : (pc : Int) + off = (tgt : Int)) (d : decode (gx_Mc M) pc = .ok (.if_icmp .lt off, 3)) (k1 : u < v → gx_G O K M Post tgt L st x bc bs) (k2 : ¬ u < v → gx_G O K M Post (pc + 3) L st x bc bs) : gx_G O K M Post pc L (.int v :: .int u :: st) x bc bs :=
  fun H locs ls c n hL hw hS e1 e2 => lv_icmp_lt h.1 h.2.1 d ht (fun q => k1 q H locs ls c n hL hw hS e1 e2) (fun q => k2 q H locs ls c n hL hw hS e1 e2)
theorem gx_icmp_ge (h : gx_OK O K M) {u v : Int32} {off : Int} {tgt : Nat} (ht : (pc : Int) + off = (tgt : Int)) (d : decode (gx_Mc M) pc = .ok (.if_icmp .ge off, 3)) (k1 : v ≤ u → gx_G O K M Post tgt L st x bc bs) (k2 : ¬ v ≤ u → gx_G O K M Post (pc + 3) L st x bc bs) : gx_G O K M Post pc L (.int v :: .int u :: st) x bc bs :=
  fun H locs ls c n hL hw hS e1 e2 => lv_icmp_ge h.1 h.2.1 d ht (fun q => k1 q H locs ls c n hL hw hS e1 e2) (fun q => k2 q H locs ls c n hL hw hS e1 e2)
theorem gx_icmp_gt (h : gx_OK O K M) {u v : Int32} {off : Int} {tgt : Nat} (ht : (pc : Int) + off = (tgt : Int)) (d : decode (gx_Mc M) pc = .ok (.if_icmp .gt off, 3)) (k1 : v < u → gx_G O K M Post tgt L st x bc bs) (k2 : ¬ v < u → gx_G O K M Post (pc + 3) L st x bc bs) : gx_G O K M Post pc L (.int v :: .int u :: st) x bc bs :=
  fun H locs ls c n hL hw hS e1 e2 => lv_icmp_gt h.1 h.2.1 d ht (fun q => k1 q H locs ls c n hL hw hS e1 e2) (fun q => k2 q H locs ls c n hL hw hS e1 e2)
theorem gx_icmp_le (h : gx_OK O K M) {u v : Int32} {off : Int} {tgt : Nat} (ht : (pc : Int) + off = (tgt : Int)) (d : decode (gx_Mc M) pc = .ok (.if_icmp .le off, 3)) (k1 : u ≤ v → gx_G O K M Post tgt L st x bc bs) (k2 : ¬ u ≤ v → gx_G O K M Post (pc + 3) L st x bc bs) : gx_G O K M Post pc L (.int v :: .int u :: st) x bc bs :=
  fun H locs ls c n hL hw hS e1 e2 => lv_icmp_le h.1 h.2.1 d ht (fun q => k1 q H locs ls c n hL hw hS e1 e2) (fun q => k2 q H locs ls c n hL hw hS e1 e2)
theorem gx_lcmp (h : gx_OK O K M) {u v : Int64} (d : decode (gx_Mc M) pc = .ok (.lcmp, 1)) (k : gx_G O K M Post (pc + 1) L (.int (lg_cmp u v) :: st) x bc bs) : gx_G O K M Post pc L (.long v :: .long u :: st) x bc bs :=
  fun H locs ls c n hL hw hS e1 e2 => W.lcmp h.1 h.2.1 d (k H locs ls c n hL hw hS e1 e2)
/-- a switch over 0 .. N-1 -/
theorem gx_tsw (h : gx_OK O K M) {dflt hi : Int} {offs : Array Int} {len N : Nat} {u : Int32} {tgt : Nat} (tg : Nat → Nat) (hN : hi + 1 = (N : Int)) (d : decode (gx_Mc M) pc = .ok (.tableswitch dflt 0 hi offs, len)) (ht : (pc : Int) + dflt = (tgt : Int)) (ho : ∀ j, j < N → ∃ off, offs[j]? = some off ∧ (pc : Int) + off = (tg j : Int))
    (k1 : ∀ j, j < N → u = nI j → gx_G O K M Post (tg j) L st x bc bs) (k2 : (∀ j, j < N → ¬ u = nI j) → gx_G O K M Post tgt L st x bc bs) (hN2 : N < 2 ^ 31) : gx_G O K M Post pc L (.int u :: st) x bc bs := by
  intro H locs ls c n hL hw hS e1 e2
  by_cases hc : 0 ≤ u.toInt ∧ u.toInt < N
  · obtain ⟨j, hj, rfl⟩ : ∃ j : Nat, j < N ∧ u = nI j := by
      refine ⟨u.toInt.toNat, by omega, Int32.toInt_inj.mp ?_⟩
      rw [nI_toInt (by omega)]
      omega
    obtain ⟨off, h1, h2⟩ := ho j hj
    refine lv_tableIn h.1 h.2.1 d (by omega) (by omega) (off := off) (tgt := tg j) ?_ h2 (k1 j hj rfl H locs ls c n hL hw hS e1 e2)
    rw [nI_toInt (by omega)]
    simpa using h1
  · refine lv_tableOut h.1 h.2.1 d (by omega) ht (k2 (fun j hj e => hc ?_) H locs ls c n hL hw hS e1 e2)
    subst e
    rw [nI_toInt (by omega)]
    omega
theorem gx_iret (h : gx_OK O K M) {v : Int32} (hr : gx_Mr M = some .int) (d : decode (gx_Mc M) pc = .ok (.ireturn, 1)) (k : Post (.returned (some (.int v))) x) : gx_G O K M Post pc L [.int v] x bc bs := by
  intro H locs ls c n hL hw hS e1 e2
  refine W.widen (k := (gx_Mm M).cells) (n := (gx_Mm M).slots) (by omega) (by omega) ?_
  refine gx_wmono gx_ret ?_
  exact W.iret h.1 h.2.1 (h.2.2.2.2.2.1.trans hr) (fun t ht hW => ⟨⟨x, k, by rw [ht]; exact hw, h.2.2.2.2.2.2.2.2.2.2.1 _ _ hW h.2.2.2.2.2.2.2.1⟩, hS.F ht⟩) hS.2.2 d h.2.2.2.2.2.2.1
theorem gx_zret (h : gx_OK O K M) {v : Int32} {ty : FieldType} (hr : gx_Mr M = some ty) (hn : narrow ty (.int v) = .int v) (d : decode (gx_Mc M) pc = .ok (.ireturn, 1)) (k : Post (.returned (some (.int v))) x) : gx_G O K M Post pc L [.int v] x bc bs := by
  intro H locs ls c n hL hw hS e1 e2
  refine W.widen (k := (gx_Mm M).cells) (n := (gx_Mm M).slots) (by omega) (by omega) ?_
  refine gx_wmono gx_ret ?_
  exact W.zret h.1 h.2.1 (h.2.2.2.2.2.1.trans hr) hn (fun t ht hW => ⟨⟨x, k, by rw [ht]; exact hw, h.2.2.2.2.2.2.2.2.2.2.1 _ _ hW h.2.2.2.2.2.2.2.1⟩, hS.F ht⟩) hS.2.2 d h.2.2.2.2.2.2.1
theorem gx_vret (h : gx_OK O K M) (hr : gx_Mr M = none) (d : decode (gx_Mc M) pc = .ok (.return_, 1)) (k : Post (.returned none) x) : gx_G O K M Post pc L [] x bc bs := by
  intro H locs ls c n hL hw hS e1 e2
  refine W.widen (k := (gx_Mm M).cells) (n := (gx_Mm M).slots) (by omega) (by omega) ?_
  refine gx_wmono gx_ret ?_
  exact W.vret h.1 h.2.1 (h.2.2.2.2.2.1.trans hr) (fun t ht hW => ⟨⟨x, k, by rw [ht]; exact hw, h.2.2.2.2.2.2.2.2.2.2.1 _ _ hW h.2.2.2.2.2.2.2.1⟩, hS.F ht⟩) hS.2.2 d h.2.2.2.2.2.2.1
theorem gx_aret (h : gx_OK O K M) {r : Option Nat} {rt : FieldType} (hr : gx_Mr M = some rt) (hrt : (∃ n, rt = .object n) ∨ ∃ t, rt = .array t) (d : decode (gx_Mc M) pc = .ok (.areturn, 1)) (k : Post (.returned (some (va_rf r))) x) : gx_G O K M Post pc L [va_rf r] x bc bs := by
  intro H locs ls c n hL hw hS e1 e2
  refine W.widen (k := (gx_Mm M).cells) (n := (gx_Mm M).slots) (by omega) (by omega) ?_
  refine gx_wmono gx_ret ?_
  exact W.aret h.1 h.2.1 (h.2.2.2.2.2.1.trans hr) hrt (by cases r with | none => exact Or.inl rfl | some a => exact Or.inr ⟨a, rfl⟩) (fun t ht hW => ⟨⟨x, k, by rw [ht]; exact hw, h.2.2.2.2.2.2.2.2.2.2.1 _ _ hW h.2.2.2.2.2.2.2.1⟩, hS.F ht⟩) hS.2.2 d h.2.2.2.2.2.2.1
theorem gx_blind (hz : ∀ u U : State, u.WarmedH U.vm → gx_z O u → gx_z O U) (args : List Value) (x : S) : FrameBlind (va_Pc args (fun U => gx_w O x U.heap ∧ gx_z O U)) :=
  fun a U g mk q => ⟨q.1, q.2.1, hz U (U.calling g mk a) (State.WarmedH.refl U) q.2.2⟩
/-- the callee has been entered: it comes back, with a value or a thrown object -/
theorem gx_in (h : gx_OK O K M) (N : gx_M) {args : List Value} {Q : Outcome → S → Prop} (hM : gx_C O N args x Q) {U : State} {locs : List Loc} {cells slots : Nat} {ls : Array Slot} {ig : Instr} {mk : MethodId}
    (X : Stand (gx_p K) (gx_l O) (gx_e K) (gx_R K) (gx_s K) (gx_m K) (gx_a K) (gx_b K) (gx_t K) (gx_c K) U locs cells slots) (hL : lv_has ls (gx_Mn M) L) (hw : gx_w O x U.heap) (hS : va_S (gx_A O) (gx_s K).heap U.heap locs)
    (e1 : cells + bc = (gx_Mm M).cells) (e2 : slots + bs = (gx_Mm M).slots) (b1 : (gx_Mm N).cells ≤ bc) (b2 : (gx_Mm N).slots ≤ bs)
    (hR : (gx_Mm N).frames + 1 ≤ (gx_Mm M).frames ∧ 8 + (gx_Mn N + 11) + (gx_Mm N).locals ≤ (gx_Mm M).locals) (hst : (st.map fun v => v.category).sum ≤ 8)
    (d : decode (gx_Mc M) pc = .ok (ig, 3)) (hn : U.methodNamed? (gx_My N) = some mk) (hc : gx_wd N ∈ lw_all) (hi : Cond.initialized (gx_My N).cls ∈ lw_all)
    (kr : ∀ v y, Q (.returned v) y → gx_G O K M Post (pc + 3) L (v.toList ++ st) y (bc - (gx_Mm N).cells) (bs - (gx_Mm N).slots))
    (kt : ∀ a y, Q (.threw a) y → gx_T O K M Post pc L a y (bc - (gx_Mm N).cells) (bs - (gx_Mm N).slots)) :
    ∃ t, Steps (gx_p K).tables (gx_e K) (gx_b K) (doInvoke (gx_e K) (U.setTop (F0 (gx_m K) pc ls st)) [] mk args.toArray).1 t ∧ gx_MQ (gx_b K) (gx_Q O Post) (gx_a K) (gx_s K) (gx_Mm M).cells (gx_Mm M).slots (gx_A O) t := by
  have hgood : ∀ w ∈ lw_all, ∀ a' : Array Value, w.before a' U = true := fun w hw' a' => pay_in h.2.2.2.2.1 lw_self w hw' a' U X.warmed
  have hcU : (gx_wd N).before args.toArray U = true := hgood _ hc _
  have hiU := hgood _ hi args.toArray
  obtain ⟨methY, cY, hmY, hcY, -, hlY, -, -, -, -⟩ := gx_wh_spec hcU hn
  obtain ⟨kY, hkY, -⟩ := className_of_methodNamed hn
  have hinitY : kY.init = .initialized := Cond.initialized_spec (findClass_of_methodNamed hn) hkY hiU
  have hz : gx_z O U := h.2.2.2.2.2.2.2.2.2.2.1 _ _ X.warmed h.2.2.2.2.2.2.2.1
  have hdg : decode (gx_c K).code (F0 (gx_m K) pc ls st).pc = .ok (ig, 3) := by rw [h.2.1]; exact d
  have hroom : 2 * (F0 (gx_m K) pc ls st).monitorRoom + ((F0 (gx_m K) pc ls st).stack.map fun v => v.category).sum ≤ 8 := lv_room hst
  have hRM := h.2.2.2.2.2.2.2.2.1
  have happ : (headSpec (gx_ws N) (gx_Mm N)).appliesLoose (gx_My N) (gx_e K).platform (U.calling (F0 (gx_m K) pc ls st) mk args.toArray) = true :=
    Spec.appliesLoose_calling (g := F0 (gx_m K) pc ls st) X.here hdg hn hkY hinitY
      (X.room_calling (g := F0 (gx_m K) pc ls st) (R' := gx_Mm N) (hL.1.trans h.2.2.1.symm) hmY hcY (by rw [hRM]; exact hR.1) (by rw [hlY, hRM]; have := hR.2; omega) (by rw [hRM]; omega) (by rw [hRM]; omega))
      (atoms_intro fun w hw' => by
        rcases List.mem_cons.mp hw' with e | e
        · rw [e]; exact hcU
        · exact hgood w e _)
  have hfr : (U.setTop (F0 (gx_m K) pc ls st)).frames = [.java (F0 (gx_m K) pc ls st)] ++ gx_b K := by rw [State.frames_setTop' _ X.here.top, X.tail]; rfl
  obtain ⟨o, s₂, hsteps, -, hend, ⟨⟨⟨y, hp, hwy, hzy⟩, hF⟩, L', ⟨hW₂, hsame⟩, hfree⟩⟩ := Steps.callFree hM (gx_p K) X.admits X.cas X.clock (acts := []) hfr happ ⟨rfl, hw, h.2.2.2.2.2.2.2.2.2.2.1 U _ (State.WarmedH.refl U) hz⟩ trivial
  rw [State.frames_setTop' _ X.here.top, X.tail] at hend
  have hS' : ∀ H1 : Heap, H1 = s₂.heap → va_S (gx_A O) (gx_s K).heap H1 (locs ++ L') := fun H1 eH => ⟨by rw [eH]; exact Nat.le_trans hS.1 hF.1, fun q h1 h2 => by rw [eH, hF.2 q (Nat.lt_of_lt_of_le h1 hS.1) h2]; exact hS.2.1 q h1 h2, fun q hq => by
      rcases List.mem_append.mp hq with h | h
      · exact hS.2.2 q h
      · exact hfree q h⟩
  cases o with
  | returned v =>
    obtain ⟨T', X', -, -, ht⟩ := X.outOf (g := F0 (gx_m K) pc ls st) rfl hdg hend hW₂ hsame
    have hh : T'.heap = s₂.heap := by rw [ht]; rfl
    obtain ⟨t2, a1, b1⟩ := kr v y hp T'.heap (locs ++ L') ls _ _ hL (by rw [hh]; exact hwy) (hS' _ hh) (by omega) (by omega) T' rfl X'
    rw [ht] at hsteps
    exact ⟨t2, hsteps.trans a1, b1⟩
  | threw a =>
    obtain ⟨T', X', -, -, ht⟩ := X.outOfThrown (g := F0 (gx_m K) pc ls st) rfl hend hW₂ hsame
    have hh : T'.heap = s₂.heap := by rw [ht, Stand.throwing_heap]
    obtain ⟨t2, a1, b1⟩ := kt a y hp T'.heap (locs ++ L') ls st _ _ hL (by rw [hh]; exact hwy) (hS' _ hh) (by omega) (by omega) T' rfl X'
    rw [ht] at hsteps
    exact ⟨t2, hsteps.trans a1, b1⟩
/-- a call through an object whose class is the method's own; the callee may throw -/
theorem gx_callT (h : gx_OK O K M) (N : gx_M) {i b : Nat} (args : List Value) (q1 : Cond.methodLink (gx_My M).cls i (gx_My N) ∈ lw_all) (q2 : Cond.instanceMethod (gx_My N) ∈ lw_all) (q3 : Cond.selects (gx_My N).cls (gx_My N) (gx_My N) ∈ lw_all) (q4 : Cond.initialized (gx_My N).cls ∈ lw_all) (q5 : gx_wd N ∈ lw_all)
    (hd : (gx_My N).cls ≠ "java/lang/invoke/MethodHandle" ∧ (gx_My N).cls ≠ "java/lang/invoke/VarHandle" ∧ (parseMethodDescriptor (gx_My N).desc).map (fun d => d.parameters.length) = some args.length)
    (hR : (gx_Mm N).frames + 1 ≤ (gx_Mm M).frames ∧ 8 + (gx_Mn N + 11) + (gx_Mm N).locals ≤ (gx_Mm M).locals) (hbd : (gx_Mm N).cells ≤ bc ∧ (gx_Mm N).slots ≤ bs)
    (hrc : ∀ H, gx_w O x H → ∃ cell : Cell, H[b]? = some cell ∧ cell.vm.isStatics = false ∧ (gx_s K).vm.findClass (gx_My N).cls = some cell.cls)
    (hst : (st.map fun v => v.category).sum ≤ 8) (d : decode (gx_Mc M) pc = .ok (.invokevirtual i, 3)) {Q : Outcome → S → Prop}
    (k : gx_C O N (.ref b :: args) x Q) (kr : ∀ v y, Q (.returned v) y → gx_G O K M Post (pc + 3) L (v.toList ++ st) y (bc - (gx_Mm N).cells) (bs - (gx_Mm N).slots))
    (kt : ∀ a y, Q (.threw a) y → gx_T O K M Post pc L a y (bc - (gx_Mm N).cells) (bs - (gx_Mm N).slots)) : gx_G O K M Post pc L (args.reverse ++ .ref b :: st) x bc bs := by
  intro H locs ls cells slots hL hw hS e1 e2 T hT X
  obtain ⟨mk, methM, hnamed, hmethM, hstM, habM⟩ := Cond.instanceMethod_spec (h.2.2.2.2.1 _ q2)
  obtain ⟨methM', cM, hmethM', -, -, -, -, -, -, hsigM⟩ := gx_wh_spec (h.2.2.2.2.1 _ q5) hnamed
  cases hmethM.symm.trans hmethM'
  obtain ⟨c2, r2, m2, p1, p2, p3, p4, kP, hkP, hkPi⟩ := Cond.selects_spec (h.2.2.2.2.1 _ q3)
  obtain ⟨cellB, hcell, hobj, hcls⟩ := hrc H hw
  cases hcls.symm.trans p1
  cases (State.methodFound?_of_named hnamed ⟨hd.1, hd.2.1⟩).symm.trans p2
  cases hnamed.symm.trans p3
  have hselP : selectMethod (gx_e K).platform (gx_s K).vm cellB.cls mk = .method mk := by rw [Launch.admits_selectMethod X.admits]; exact p4
  have hlen : args.length = methM.sig.parameters.length := by
    have h2 := hd.2.2
    rw [hsigM] at h2
    exact (Option.some.inj h2).symm
  obtain ⟨vm₁, X₁, hstep₁⟩ := X.invokevirtual h.1 h.2.2.2.1 (h.2.2.2.2.1 _ q1) hnamed hmethM hstM hkP hkPi ⟨hd.1, hd.2.1⟩ (a := b) (cell := cellB) (by rw [hT]; exact hcell)
    (fun z h => by rw [h] at hobj; cases hobj) hselP hmethM habM hkP hkPi (g := F0 (gx_m K) pc ls (args.reverse ++ .ref b :: st)) rfl (argsL := args) (rest := st) hlen rfl (by rw [h.2.1]; exact d)
  obtain ⟨t, a1, b1⟩ := gx_in h N k X₁ hL (by rw [show (T.setVm vm₁).heap = H from hT]; exact hw) (by rw [show (T.setVm vm₁).heap = H from hT]; exact hS) e1 e2 hbd.1 hbd.2 hR hst d (X₁.named hnamed) q5 q4 kr kt
  exact ⟨t, hstep₁ _ fun acts => by rw [doInvoke_state]; exact a1, b1⟩
/-- behind a call by the kit's rows -/
theorem gx_back (h : gx_OK O K M) {ls : Array Slot} {H : Heap} {locs : List Loc} {c n mc ms : Nat} {st0 : List Value} {a : Array Value} {Q : Outcome → S → Prop} (hL : lv_has ls (gx_Mn M) L) (hS : va_S (gx_A O) (gx_s K).heap H locs) (e1 : c + bc = (gx_Mm M).cells) (e2 : n + bs = (gx_Mm M).slots) (b1 : mc ≤ bc) (b2 : ms ≤ bs)
    (hr : va_Run (gx_p K) (gx_l O) (gx_e K) (gx_R K) (gx_s K) (gx_m K) (gx_a K) (gx_b K) (gx_t K) (gx_c K) H locs c n mc ms (F0 (gx_m K) pc ls st0) st (gx_Q O Q a) (gx_A O))
    (k : ∀ v y, Q (.returned v) y → gx_G O K M Post (pc + 3) L (v.toList ++ st) y (bc - mc) (bs - ms)) : gx_W O K M Post H locs c n (F0 (gx_m K) pc ls st0) := by
  intro T hT X
  obtain ⟨v, st₀, t, T', L', h0, X', hL', f1, f2, ⟨⟨y, hp, hw, hz⟩, hF1, hF2⟩, go⟩ := hr T hT X
  rw [h0] at hF1 hF2
  obtain ⟨t2, a1, b1⟩ := k v y hp T'.heap (locs ++ L') ls (c + mc) (n + ms) hL (by rw [f1]; exact hw) ⟨Nat.le_trans hS.1 (by rw [f1]; exact hF1), fun q h1 h2 => by rw [f1, hF2 q (Nat.lt_of_lt_of_le h1 hS.1) h2]; exact hS.2.1 q h1 h2, fun q hq => by
      rcases List.mem_append.mp hq with h | h
      · exact hS.2.2 q h
      · exact hL' q h⟩ (by omega) (by omega) T' rfl X'
  exact ⟨t2, go t2 a1, b1⟩
/-- a call through an object whose class is the method's own -/
theorem gx_callV (h : gx_OK O K M) (N : gx_M) {i b : Nat} (args : List Value) (q1 : Cond.methodLink (gx_My M).cls i (gx_My N) ∈ lw_all) (q2 : Cond.instanceMethod (gx_My N) ∈ lw_all) (q3 : Cond.selects (gx_My N).cls (gx_My N) (gx_My N) ∈ lw_all) (q4 : Cond.initialized (gx_My N).cls ∈ lw_all) (q5 : gx_wd N ∈ lw_all)
    (hd : (gx_My N).cls ≠ "java/lang/invoke/MethodHandle" ∧ (gx_My N).cls ≠ "java/lang/invoke/VarHandle" ∧ (parseMethodDescriptor (gx_My N).desc).map (fun d => d.parameters.length) = some args.length)
    (hR : (gx_Mm N).frames + 1 ≤ (gx_Mm M).frames ∧ 8 + (gx_Mn N + 11) + (gx_Mm N).locals ≤ (gx_Mm M).locals) (hbd : (gx_Mm N).cells ≤ bc ∧ (gx_Mm N).slots ≤ bs)
    (hrc : ∀ H, gx_w O x H → ∃ cell : Cell, H[b]? = some cell ∧ cell.vm.isStatics = false ∧ (gx_s K).vm.findClass (gx_My N).cls = some cell.cls)
    (hst : (st.map fun v => v.category).sum ≤ 8) (d : decode (gx_Mc M) pc = .ok (.invokevirtual i, 3))
    (k : gx_C O N (.ref b :: args) x (fun o y => ∃ v, o = .returned v ∧ gx_G O K M Post (pc + 3) L (v.toList ++ st) y (bc - (gx_Mm N).cells) (bs - (gx_Mm N).slots))) : gx_G O K M Post pc L (args.reverse ++ .ref b :: st) x bc bs :=
  gx_callT h N args q1 q2 q3 q4 q5 hd hR hbd hrc hst d k (fun v y q => by obtain ⟨v', e, q⟩ := q; cases e; exact q) (fun a y q => by obtain ⟨v', e, -⟩ := q; cases e)
theorem gx_callS (h : gx_OK O K M) (N : gx_M) {i : Nat} (args : List Value) (q1 : Cond.methodLink (gx_My M).cls i (gx_My N) ∈ lw_all) (q2 : Cond.static (gx_My N) ∈ lw_all) (q3 : Cond.initialized (gx_My N).cls ∈ lw_all) (q4 : Cond.code (gx_My N) (gx_Mc N) (gx_Mn N) (gx_Mr N) ∈ lw_all) (hh : gx_Mh N = [])
    (hd : (gx_My N).cls ≠ "java/lang/invoke/MethodHandle" ∧ (gx_My N).cls ≠ "java/lang/invoke/VarHandle" ∧ (parseMethodDescriptor (gx_My N).desc).map (fun d => d.parameters.length) = some args.length)
    (hR : (gx_Mm N).frames + 1 ≤ (gx_Mm M).frames ∧ 8 + (gx_Mn N + 11) + (gx_Mm N).locals ≤ (gx_Mm M).locals) (hbd : (gx_Mm N).cells ≤ bc ∧ (gx_Mm N).slots ≤ bs)
    (hst : (st.map fun v => v.category).sum ≤ 8) (d : decode (gx_Mc M) pc = .ok (.invokestatic i, 3))
    (k : gx_C O N args x (fun o y => ∃ v, o = .returned v ∧ gx_G O K M Post (pc + 3) L (v.toList ++ st) y (bc - (gx_Mm N).cells) (bs - (gx_Mm N).slots))) : gx_G O K M Post pc L (args.reverse ++ st) x bc bs := by
  have ew : gx_ws N = ws_ (gx_My N) (gx_Mc N) (gx_Mn N) (gx_Mr N) := by unfold gx_ws gx_wd; rw [hh]; rfl
  have k := gx_C.met k (fun o y q => ⟨_, q.choose_spec.1⟩)
  rw [ew] at k
  intro H locs ls c n hL hw hS e1 e2
  refine gx_back h hL hS e1 e2 hbd.1 hbd.2 (va_runS (As := args) (rest := st) ⟨h.1, h.2.1, h.2.2.1, h.2.2.2.1, h.2.2.2.2.1⟩ k (va_cwS args.length h.2.2.2.2.1 (lw_S q1 q2 q3 q4) rfl rfl rfl hd (by rw [h.2.2.2.2.2.2.2.2.1]; exact hR)) ⟨gx_blind h.2.2.2.2.2.2.2.2.2.2.1 _ _, fun U hU hW => ⟨rfl, by rw [hU]; exact hw, h.2.2.2.2.2.2.2.2.2.2.1 _ _ hW h.2.2.2.2.2.2.2.1⟩⟩ rfl rfl hL.1 rfl (lv_room hst) d (by rw [h.2.2.2.2.2.2.2.2.1]; omega)) (fun v y q => by obtain ⟨v', e, q⟩ := q; cases e; exact q)
end GXR
