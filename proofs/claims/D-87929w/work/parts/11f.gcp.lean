/-! a method that the reference's class inherits from an interface of ours (Pen's open and close) -/
theorem gy_sel {A : Array Value} {s : State} {C c o n d : String} {y : MethodName} (ho : o ≠ "java/lang/invoke/MethodHandle" ∧ o ≠ "java/lang/invoke/VarHandle") (h1 : (Cond.sameMethod c o n d).before A s = true) (h2 : (Cond.selects C ⟨o, n, d⟩ y).before A s = true) : (Cond.selects C ⟨c, n, d⟩ y).before A s = true := by
  obtain ⟨cn, ck, r1, hcn, hck, hni, hf, hn1⟩ := Cond.sameMethod_found h1
  have e1 : s.methodFound? c n d = some r1 := hf
  have e2 : s.methodFound? o n d = some r1 := State.methodFound?_of_named hn1 ho
  simp only [Cond.before, Cond.holds, Cond.value, e1, e2] at h2 ⊢
  exact h2
theorem gx_cwP {S : Type} {O : gx_O S} {K : gx_K} {M : gx_M} (h : gx_OK O K M) (N : gx_M) {i : Nat} {C owner : String} {y0 : MethodName} (n : Nat) (q1 : (Cond.methodLink (gx_My M).cls i y0).before (gx_a K) (gx_s K) = true) (q2 : (Cond.sameMethod y0.cls owner y0.name y0.desc).before (gx_a K) (gx_s K) = true) (q3 : Cond.selects C ⟨owner, y0.name, y0.desc⟩ (gx_My N) ∈ lw_all) (q4 : Cond.instanceMethod (gx_My N) ∈ lw_all) (q5 : Cond.initialized (gx_My N).cls ∈ lw_all) (q6 : Cond.code (gx_My N) (gx_Mc N) (gx_Mn N) (gx_Mr N) ∈ lw_all) (q7 : va_Nw (.declares ⟨owner, y0.name, y0.desc⟩) (gx_s K))
    (hd : owner ≠ "java/lang/invoke/MethodHandle" ∧ owner ≠ "java/lang/invoke/VarHandle" ∧ (parseMethodDescriptor y0.desc).map (fun d => d.parameters.length) = some n) (hR : (gx_Mm N).frames + 1 ≤ (gx_Mm M).frames ∧ 8 + (gx_Mn N + 11) + (gx_Mm N).locals ≤ (gx_Mm M).locals) :
    va_CU (gx_R K) (gx_s K) (gx_a K) (gx_My M).cls C owner i y0 (gx_My N) (gx_Mc N) (gx_Mn N) (gx_Mr N) (ws_ (gx_My N) (gx_Mc N) (gx_Mn N) (gx_Mr N)) (gx_Mm N) (gx_Mm N).cells (gx_Mm N).slots n := by
  refine ⟨⟨rfl, rfl, by rw [h.2.2.2.2.2.2.2.2.1]; exact hR.1, by rw [h.2.2.2.2.2.2.2.2.1]; exact hR.2, pay_in h.2.2.2.2.1 (lw_meth q6), List.mem_cons_self ..⟩, h.2.2.2.2.1 _ q6, h.2.2.2.2.1 _ q5, ⟨hd.1, hd.2.1⟩, fun sig hs => ?_, q1, q2, va_Decl.abs q7, gy_sel ⟨hd.1, hd.2.1⟩ q2 (h.2.2.2.2.1 _ q3), h.2.2.2.2.1 _ q4⟩
  have h2 := hd.2.2
  rw [hs] at h2
  exact (Option.some.inj h2).symm
theorem gc_dw0 : Cond.methodLink "BranchMender$Pen" 34 ⟨"BranchMender$Node", "open", "(LBranchMender$Pen;)V"⟩ ∈ defaultWords_1 := .head _
theorem gc_dw1 : Cond.sameMethod "BranchMender$Node" "BranchMender$Prints" "open" "(LBranchMender$Pen;)V" ∈ defaultWords_1 := .tail _ (.head _)
theorem gc_dw2 : Cond.methodLink "BranchMender$Pen" 55 ⟨"BranchMender$Node", "close", "(LBranchMender$Pen;)V"⟩ ∈ defaultWords_1 := .tail _ (.tail _ (.head _))
theorem gc_dw3 : Cond.sameMethod "BranchMender$Node" "BranchMender$Prints" "close" "(LBranchMender$Pen;)V" ∈ defaultWords_1 := .tail _ (.tail _ (.tail _ (.head _)))
