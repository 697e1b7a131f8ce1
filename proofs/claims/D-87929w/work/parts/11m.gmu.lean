/-! int[n][m] -/
def gu_f (h i : Nat) : Nat → Value := fun j => if j < i then .ref (h + 1 + j) else .null
def gu_fill (T : State) (cA comp : ClassId) (N M : Nat) : Nat → State
  | 0 => T.pushCell (arrV cA N (fun _ => .null))
  | i + 1 => ((gu_fill T cA comp N M i).pushCell (arrV comp M (fun _ => .int 0))).setCell T.heap.size (arrV cA N (gu_f T.heap.size (i + 1)))
theorem gu_store (cA : ClassId) (N h i : Nat) : (arrV cA N (gu_f h i)).setSlot i (.ref (h + 1 + i)) = arrV cA N (gu_f h (i + 1)) := by
  rw [arrV_store]
  congr 1
  funext j
  unfold updV gu_f
  by_cases hj : j = i
  · subst hj; simp
  · simp only [hj, if_false]
    by_cases h1 : j < i
    · rw [if_pos h1, if_pos (by omega)]
    · rw [if_neg h1, if_neg (by omega)]
theorem gu_facts (T : State) (cA comp : ClassId) (N M : Nat) : ∀ i, (gu_fill T cA comp N M i).heap.size = T.heap.size + 1 + i ∧ (gu_fill T cA comp N M i).heap[T.heap.size]? = some (arrV cA N (gu_f T.heap.size i)) ∧ (∀ q, q < T.heap.size → (gu_fill T cA comp N M i).heap[q]? = T.heap[q]?) ∧
    (∀ j, j < i → (gu_fill T cA comp N M i).heap[T.heap.size + 1 + j]? = some (arrV comp M (fun _ => .int 0))) ∧ (gu_fill T cA comp N M i).vm = T.vm ∧ (gu_fill T cA comp N M i).slotsUsed = T.slotsUsed + N + i * M := by
  intro i
  induction i with
  | zero =>
    refine ⟨State.heap_size_pushCell _ _, State.heap_pushCell_size _ _, fun q hq => State.heap_pushCell_of_lt _ _ hq, fun j hj => by omega, rfl, ?_⟩
    show (T.pushCell (arrV cA N (fun _ => .null))).slotsUsed = _
    simp [State.pushCell, arrV_size]
  | succ i ih =>
    obtain ⟨a1, a2, a3, a4, a5, a6⟩ := ih
    have s1 : ((gu_fill T cA comp N M i).pushCell (arrV comp M (fun _ => .int 0))).heap.size = T.heap.size + 1 + i + 1 := (State.heap_size_pushCell _ _).trans (by rw [a1])
    have old : ∀ q, q < T.heap.size + 1 + i → ((gu_fill T cA comp N M i).pushCell (arrV comp M (fun _ => .int 0))).heap[q]? = (gu_fill T cA comp N M i).heap[q]? := fun q hq => State.heap_pushCell_of_lt _ _ (by rw [a1]; exact hq)
    refine ⟨?_, ?_, fun q hq => ?_, fun j hj => ?_, a5, ?_⟩
    · show (State.setCell _ _ _).heap.size = _
      rw [size_setCell, s1]; omega
    · have hlt : T.heap.size < ((gu_fill T cA comp N M i).pushCell (arrV comp M (fun _ => .int 0))).heap.size := by rw [s1]; omega
      exact heapAt_setCell_self _ hlt
    · show (State.setCell _ _ _).heap[q]? = _
      rw [heapAt_setCell_ne _ (Nat.ne_of_gt hq), old q (by omega)]
      exact a3 q hq
    · show (State.setCell _ _ _).heap[T.heap.size + 1 + j]? = _
      rw [heapAt_setCell_ne _ (show T.heap.size ≠ T.heap.size + 1 + j by omega)]
      by_cases h : j = i
      · subst h
        rw [← a1]
        exact State.heap_pushCell_size _ _
      · rw [old _ (by omega)]
        exact a4 j (by omega)
    · show (((gu_fill T cA comp N M i).pushCell (arrV comp M (fun _ => .int 0))).setCell T.heap.size _).slotsUsed = _
      simp only [State.setCell, State.pushCell, a6, arrV_size, Nat.succ_mul]
      omega
section GU
variable {p : Program} {l : Launch} {e : Env} {R : Room} {s : State} {m : MethodId} {args : Array Value} {below : List Frame} {meth : Method} {c : Code} {T : State} {locs : List Loc} {cells slots : Nat}
theorem gu_stand (X : Stand p l e R s m args below meth c T locs cells slots) (cA comp : ClassId) (N M : Nat) : ∀ i, ∃ L' : List Loc, (∀ x ∈ L', x.base = T.heap.size) ∧ Stand p l e R s m args below meth c (gu_fill T cA comp N M i) (locs ++ L') (cells + 1 + i) (slots + N + i * M) := by
  intro i
  induction i with
  | zero =>
    refine ⟨[], fun x hx => absurd hx List.not_mem_nil, ?_⟩
    have := X.pushed (arrV cA N (fun _ => .null))
    rw [arrV_size] at this
    simpa [gu_fill] using this
  | succ i ih =>
    obtain ⟨L', h1, h2⟩ := ih
    obtain ⟨a1, a2, a3, a4, a5, a6⟩ := gu_facts T cA comp N M i
    have h3 := h2.pushed (arrV comp M (fun _ => .int 0))
    rw [arrV_size] at h3
    have hc : ((gu_fill T cA comp N M i).pushCell (arrV comp M (fun _ => .int 0))).heap[T.heap.size]? = some (arrV cA N (gu_f T.heap.size i)) := by
      have hlt : T.heap.size < (gu_fill T cA comp N M i).heap.size := by rw [a1]; omega
      rw [State.heap_pushCell_of_lt _ _ hlt]; exact a2
    have h4 := h3.stored hc i (.ref (T.heap.size + 1 + i))
    rw [gu_store] at h4
    refine ⟨L' ++ [⟨T.heap.size, i⟩], fun x hx => ?_, ?_⟩
    · rcases List.mem_append.mp hx with hx | hx
      · exact h1 x hx
      · simp only [List.mem_cons, List.not_mem_nil, or_false] at hx
        subst hx; rfl
    · have e1 : cells + 1 + i + 1 = cells + 1 + (i + 1) := by omega
      have e2 : slots + N + i * M + M = slots + N + (i + 1) * M := by rw [Nat.succ_mul]; omega
      rw [e1, e2, List.append_assoc] at h4
      exact h4
theorem gu_make {E : CtlPost} {d : Bool} {acts : List Action} {f : JFrame} {cA comp cc : ClassId} {kA kI : Class} {n m : Int32} (hk : T.vm.classes[cA]? = some kA) (hkind : kA.kind = .array comp (.array .int)) (hkI : T.vm.classes[comp]? = some kI) (hkindI : kI.kind = .array cc .int)
    (hn : ¬ n < 0) (hm : ¬ m < 0) (hl : e.platform.arrayLengthLimit = 2147483645 ∧ e.platform.maxHeapBytes = 536870912) (hn1 : n.toNatClampNeg ≤ 1000) (hm1 : m.toNatClampNeg ≤ 1000)
    (hc : T.heap.size + 1 + n.toNatClampNeg ≤ e.platform.maxCells) (hs : T.slotsUsed + n.toNatClampNeg + n.toNatClampNeg * m.toNatClampNeg ≤ e.platform.maxSlots)
    {Q : Addr → Pre} (hq : ∀ d' acts', Q T.heap.size d' acts' ((gu_fill T cA comp n.toNatClampNeg m.toNatClampNeg n.toNatClampNeg).setTop f)) :
    wp (Op.multianewarray.make cA [n, m]) Q E e d acts (T.setTop f) := by
  have hcb1 : componentBytes (.array .int) = 4 := by decide
  have hcb2 : componentBytes .int = 4 := by decide
  have hfind : ([m].find? (· < 0)) = none := by simp [hm]
  rw [Op.multianewarray.make]
  simp only [wp_bind', W.ite, hn, if_false, wp_pure', W.theClass, State.vm_setTop, hk, hkind, Option.some.injEq, exists_eq_left']
  refine W.newArray_of (s := T.setTop f) hk hkind (by rw [hl.1]; omega) (by rw [hl.2, hcb1]; omega) (by show T.heap.size < _; omega) (by show T.slotsUsed + _ ≤ _; omega) rfl (fun acts' => ?_)
  simp only [hfind]
  rw [ite_self, wp_bind', Std.Legacy.Range.forIn_eq_forIn_range']
  have hsz : ([:n.toNatClampNeg] : Std.Legacy.Range).size = n.toNatClampNeg := by simp [Std.Legacy.Range.size]
  rw [hsz]
  show wp (forIn (List.range' 0 n.toNatClampNeg 1) PUnit.unit _) _ E e _ _ _
  have e0 : (T.setTop f).pushCell { cls := cA, slots := Array.replicate n.toNatClampNeg .null } = (gu_fill T cA comp n.toNatClampNeg m.toNatClampNeg 0).setTop f := by
    show (T.pushCell _).setTop f = (T.pushCell _).setTop f
    rw [← arrV_new]
  rw [e0]
  refine wp_forIn_inv (fun rest s' => ∃ i, i ≤ n.toNatClampNeg ∧ rest = List.range' i (n.toNatClampNeg - i) ∧ s' = (gu_fill T cA comp n.toNatClampNeg m.toNatClampNeg i).setTop f) _ _ ⟨0, Nat.zero_le _, rfl, rfl⟩ ?_ ?_
  · rintro x rest s' d' acts' Q' ⟨i, hi, hl2, rfl⟩ hnext
    have hlt : i < n.toNatClampNeg := by
      refine Nat.lt_of_not_le fun z => ?_
      rw [show n.toNatClampNeg - i = 0 by omega] at hl2
      simp at hl2
    rw [show n.toNatClampNeg - i = (n.toNatClampNeg - (i + 1)) + 1 by omega, List.range'_succ] at hl2
    obtain ⟨rfl, hrest⟩ := List.cons.inj hl2
    obtain ⟨a1, a2, a3, a4, a5, a6⟩ := gu_facts T cA comp n.toNatClampNeg m.toNatClampNeg x
    have hmul : (x + 1) * m.toNatClampNeg ≤ n.toNatClampNeg * m.toNatClampNeg := Nat.mul_le_mul_right _ hlt
    rw [Nat.succ_mul] at hmul
    simp only [wp_bind']
    rw [Op.multianewarray.make]
    simp only [wp_bind', W.ite, hm, if_false, wp_pure', W.theClass, State.vm_setTop, a5, hkI, hkindI, Option.some.injEq, exists_eq_left']
    refine W.newArray_of (s := (gu_fill T cA comp n.toNatClampNeg m.toNatClampNeg x).setTop f) (by show (gu_fill T cA comp n.toNatClampNeg m.toNatClampNeg x).vm.classes[comp]? = _; rw [a5]; exact hkI) hkindI (by rw [hl.1]; omega) (by rw [hl.2, hcb2]; omega) (by show (gu_fill T cA comp n.toNatClampNeg m.toNatClampNeg x).heap.size < _; rw [a1]; omega) (by show (gu_fill T cA comp n.toNatClampNeg m.toNatClampNeg x).slotsUsed + _ ≤ _; rw [a6]; omega) rfl (fun acts'' => ?_)
    have hlt0 : T.heap.size < (gu_fill T cA comp n.toNatClampNeg m.toNatClampNeg x).heap.size := by rw [a1]; omega
    have e1 : ((gu_fill T cA comp n.toNatClampNeg m.toNatClampNeg x).setTop f).pushCell { cls := comp, slots := Array.replicate m.toNatClampNeg (defaultValue .int) } = ((gu_fill T cA comp n.toNatClampNeg m.toNatClampNeg x).pushCell (arrV comp m.toNatClampNeg (fun _ => .int 0))).setTop f := by
      rw [← arrV_new]; rfl
    rw [e1]
    simp only [wp_bind', W.writeLoc, wp_pure']
    refine ⟨arrV cA n.toNatClampNeg (gu_f T.heap.size x), ?_, ?_, ?_, ?_, hnext _ _ _ ⟨x + 1, hlt, hrest, ?_⟩⟩
    · show ((gu_fill T cA comp n.toNatClampNeg m.toNatClampNeg x).pushCell _).heap[T.heap.size]? = _
      rw [State.heap_pushCell_of_lt _ _ hlt0]; exact a2
    · simp [arrV]
    · rw [arrV_size]; exact hlt
    · simp [State.fitsSlot, State.slotType?, arrV, a5, hk, hkind, fits]
    · show (State.setCell ((gu_fill T cA comp n.toNatClampNeg m.toNatClampNeg x).pushCell _) T.heap.size _).setTop f = _
      have e2 : ((gu_fill T cA comp n.toNatClampNeg m.toNatClampNeg x).setTop f).heap.size = T.heap.size + 1 + x := a1
      rw [e2, gu_store]
      rfl
  · rintro s' d' acts' ⟨i, hi, hl2, rfl⟩
    have : i = n.toNatClampNeg := by
      refine Nat.le_antisymm hi (Nat.le_of_not_lt fun z => ?_)
      rw [show n.toNatClampNeg - i = (n.toNatClampNeg - (i + 1)) + 1 by omega, List.range'_succ] at hl2
      cases hl2
    subst this
    simp only [wp_pure']
    exact hq _ _
end GU
