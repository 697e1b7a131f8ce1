/-! the row of multianewarray -/
def gc_mul (σ : gc_S) (q n m : Nat) : gc_S := (gc_d σ ++ (List.range (n + 1)).map (fun i => q + i), fun a => if a = q then 17 else if q < a ∧ a ≤ q + n then 14 else gc_k σ a, fun f a => if q ≤ a ∧ a ≤ q + n then 0 else gc_I σ f a, fun f a => if q ≤ a ∧ a ≤ q + n then none else gc_R σ f a,
  fun a => if q ≤ a ∧ a ≤ q + n then (fun _ => 0) else gc_E σ a, fun a => if a = q then (fun i => if i < n then some (q + 1 + i) else none) else if q < a ∧ a ≤ q + n then (fun _ => none) else gc_Q σ a, fun a => if a = q then n else if q < a ∧ a ≤ q + n then m else gc_n σ a)
section GMV
variable {θ : gc_T} {K : gx_K} {M : gx_M} {Post : Outcome → gc_S → Prop} {pc : Nat} {L : List (Nat × Value)} {st : List Value} {σ : gc_S} {bc bs : Nat} {a : Nat}
theorem gu_step {p : Program} {l : Launch} {e : Env} {R : Room} {s : State} {mm : MethodId} {args : Array Value} {below : List Frame} {meth : Method} {c : Code} {T : State} {locs : List Loc} {cells slots : Nat} (X : Stand p l e R s mm args below meth c T locs cells slots) (hexec : p.tables.exec = Jvm.exec) {own : String} {index : Nat}
    (hown : s.vm.findClass own = some mm.cls) (hclink : (Cond.classLink own index "[[I").before args s = true) {cA comp cc : ClassId} {kA kI : Class} (hfA : s.vm.findClass "[[I" = some cA) (hk : s.vm.classes[cA]? = some kA) (hkind : kA.kind = .array comp (.array .int)) (hkI : s.vm.classes[comp]? = some kI) (hkindI : kI.kind = .array cc .int)
    {n m : Int32} (hn : ¬ n < 0) (hm : ¬ m < 0) (hn1 : n.toNatClampNeg ≤ 1000) (hm1 : m.toNatClampNeg ≤ 1000) (hc : cells + (1 + n.toNatClampNeg) ≤ R.cells) (hs : slots + (n.toNatClampNeg + n.toNatClampNeg * m.toNatClampNeg) ≤ R.slots)
    {g : JFrame} (hg : g.method = mm) {rest : List Value} (hstack : g.stack = .int m :: .int n :: rest) (hdg : decode c.code g.pc = .ok (.multianewarray index 2, 4)) :
    ∃ vm₁, Stand p l e R s mm args below meth c (T.setVm vm₁) locs cells slots ∧ ∀ target, Steps p.tables e below ((gu_fill (T.setVm vm₁) cA comp n.toNatClampNeg m.toNatClampNeg n.toNatClampNeg).setTop { g with pc := g.pc + 4, stack := .ref T.heap.size :: rest }) target → Steps p.tables e below (T.setTop g) target := by
  have hpl : e.platform.magicAccessors = ({} : Platform).magicAccessors := by rw [X.admits.platform]
  obtain ⟨c', hfc, hcl⟩ := Cond.classLink_spec hown hclink e.platform hpl
  cases hfA.symm.trans hfc
  subst hg
  obtain ⟨hg₁, hwarm₁, hready₁⟩ := State.classEntry (e := e) X.warmed hcl
  generalize T.vm.noted g.method.cls index (.cls cA) = vm₁ at hg₁ hwarm₁ hready₁
  have hal : s.vm.Alike vm₁ := hwarm₁.alike
  obtain ⟨kA₁, hkA₁, heA⟩ := hal.2.2 _ _ hk
  obtain ⟨kI₁, hkI₁, heI⟩ := hal.2.2 _ _ hkI
  have hlim : e.platform.arrayLengthLimit = 2147483645 ∧ e.platform.maxHeapBytes = 536870912 := by rw [X.admits.platform]; exact ⟨rfl, rfl⟩
  obtain ⟨hr1, hr2⟩ := X.roomAbove hc hs
  refine ⟨vm₁, X.noted hwarm₁, fun target hrest => ?_⟩
  jvm_step X.here [hexec, hdg]
  have hcold : ∀ {Q : Unit → Pre} {E : CtlPost} {d : Bool} {acts : List Action}, wp (Op.multianewarray.sem index 2) Q E e d acts ((T.setVm vm₁).setTop g) → wp (Op.multianewarray.sem index 2) Q E e d acts (T.setTop g) := by
    intro Q E d acts hq
    simp only [Op.multianewarray.sem, wp_bind'] at hq ⊢
    exact (W.resolveClassAt_transfer (s := T.setTop g) (State.method?_setTop g X.here.top) hg₁ hready₁).mpr hq
  refine hcold ?_
  simp only [Op.multianewarray.sem, wp_bind', W.resolveClassAt_ready (State.method?_setTop (s := T.setVm vm₁) g X.here.top) hready₁]
  have hpop := fun (Q : List Value → Pre) (E : CtlPost) (d : Bool) (acts : List Action) => popN_top (s := T.setVm vm₁) (f := g) (Q := Q) (E := E) (e := e) (d := d) (acts := acts) X.here.top (args := [.int n, .int m]) (rest := rest) hstack
  refine (hpop _ _ _ _).mpr ?_
  simp only [List.mapM_cons, List.mapM_nil, wp_bind', wp_pure', pure_bind]
  refine gu_make (T := T.setVm vm₁) (f := { g with stack := rest }) hkA₁ (by rw [heA]; exact hkind) hkI₁ (by rw [heI]; exact hkindI) hn hm hlim hn1 hm1 (by show T.heap.size + 1 + _ ≤ _; omega) (by show T.slotsUsed + _ + _ ≤ _; omega) (fun d' acts' => ?_)
  obtain ⟨L', -, XF⟩ := gu_stand (X.noted hwarm₁) cA comp n.toNatClampNeg m.toNatClampNeg n.toNatClampNeg
  simp
  refine ⟨{ g with stack := rest }, State.topJava?_setTop' _ XF.here.top, fun acts => ?_⟩
  rw [afterInstr_ok]
  exact hrest
theorem gc_multi (h : gc_K θ K M) {own : String} {idx : Nat} (hc : (gx_My M).cls = own) (q1 : Cond.classLink own idx "[[I" ∈ lw_all) (q : Cond.arrayOver (.array .int) ∈ lw_tbl) {n m : Int32} (hn : ¬ n < 0) (hm : ¬ m < 0) (hn1 : n.toNatClampNeg ≤ 1000) (hm1 : m.toNatClampNeg ≤ 1000) (d : decode (gx_Mc M) pc = .ok (.multianewarray idx 2, 4)) (hbc : 1 + n.toNatClampNeg ≤ bc) (hbs : n.toNatClampNeg + n.toNatClampNeg * m.toNatClampNeg ≤ bs)
    (kk : ∀ q, (∀ i, i ≤ n.toNatClampNeg → q + i ∉ gc_d σ ∧ gc_A θ (q + i)) → gc_G θ K M Post (pc + 4) L (.ref q :: st) (gc_mul σ q n.toNatClampNeg m.toNatClampNeg) (bc - (1 + n.toNatClampNeg)) (bs - (n.toNatClampNeg + n.toNatClampNeg * m.toNatClampNeg))) : gc_G θ K M Post pc L (.int m :: .int n :: st) σ bc bs := by
  intro H locs ls cells slots hL hw hS e1 e2 T hT X
  have hRM := h.2.2.2.2.2.2.2.2.1
  have hz := h.2.2.2.2.2.2.2.1
  obtain ⟨kA, kI, g1, g2, g3⟩ := gc_AI hz q
  obtain ⟨-, kI', hkI', cc, hkindI⟩ := (hz.1.2 0 _ rfl).1 0 (fun _ => .null)
  have eI : kI' = kI := Option.some.inj ((show (gx_s K).vm.classes[gc_c θ 14]? = some kI' from hkI').symm.trans g3)
  subst eI
  obtain ⟨vm1, X1, st1⟩ := gu_step X h.1 (own := own) (index := idx) (hc ▸ h.2.2.2.1) (h.2.2.2.2.1 _ q1) (cA := gc_c θ 17) (comp := gc_c θ 14) (hz.1.2 3 _ rfl).2 g1 g2 g3 hkindI hn hm hn1 hm1 (by rw [hRM]; omega) (by rw [hRM]; omega) (g := F0 (gx_m K) pc ls (.int m :: .int n :: st)) rfl (rest := st) rfl (by rw [h.2.1]; exact d)
  have hT1 : (T.setVm vm1).heap = H := hT
  obtain ⟨L', hL', XF⟩ := gu_stand X1 (gc_c θ 17) (gc_c θ 14) n.toNatClampNeg m.toNatClampNeg n.toNatClampNeg
  obtain ⟨y1, y2, y3, y4, -, -⟩ := gu_facts (T.setVm vm1) (gc_c θ 17) (gc_c θ 14) n.toNatClampNeg m.toNatClampNeg n.toNatClampNeg
  rw [hT1] at y1 y2 y3 y4 hL'
  generalize hU : gu_fill (T.setVm vm1) (gc_c θ 17) (gc_c θ 14) n.toNatClampNeg m.toNatClampNeg n.toNatClampNeg = U at XF y1 y2 y3 y4 st1
  generalize hN : n.toNatClampNeg = N at *
  generalize hMM : m.toNatClampNeg = MM at *
  have hA : ∀ i, gc_A θ (H.size + i) := fun i => hw.2.2.1 _ (by omega)
  have hfr : ∀ i, H.size + i ∉ gc_d σ := fun i z => by
    obtain ⟨x, hx⟩ := gc_at (θ := θ) z
    have := (hw.1 x _ hx).lt
    show False
    have h2 : H.size + i < H.size := this
    omega
  have hS2 : va_S (gc_A θ) (gx_s K).heap U.heap (locs ++ L') := ⟨Nat.le_trans hS.1 (by omega), fun x h1 h2 => (y3 x (Nat.lt_of_lt_of_le h1 hS.1)).trans (hS.2.1 x h1 h2), fun l hl => by
    rcases List.mem_append.mp hl with hl | hl
    · exact hS.2.2 l hl
    · rw [hL' l hl]; exact hA 0⟩
  have hlt : ∀ b, b ∈ gc_d σ → b < H.size := fun b hb => by
    obtain ⟨x, hx⟩ := gc_at (θ := θ) hb
    exact (hw.1 x _ hx).lt
  have hws : gc_ws θ (gc_mul σ H.size N MM) = gc_ws θ σ ++ (List.range (N + 1)).map (fun i => (H.size + i, gc_e θ (gc_mul σ H.size N MM) (H.size + i))) := by
    show (gc_d σ ++ (List.range (N + 1)).map (fun i => H.size + i)).map (fun a => (a, gc_e θ (gc_mul σ H.size N MM) a)) = (gc_d σ).map (fun a => (a, gc_e θ σ a)) ++ _
    rw [List.map_append, List.map_map]
    congr 1
    refine List.map_congr_left fun b hb => ?_
    have hb2 := hlt b hb
    rw [gc_e_congr (θ := θ) (σ := σ) (σ' := gc_mul σ H.size N MM) (b := b)]
    · show (if b = H.size then 17 else if H.size < b ∧ b ≤ H.size + N then 14 else gc_k σ b) = _
      rw [if_neg (by omega), if_neg (by omega)]
    · show (if H.size ≤ b ∧ b ≤ H.size + N then (fun _ => (0 : Int32)) else gc_E σ b) = _
      rw [if_neg (by omega)]
    · show (if b = H.size then (fun i => if i < N then some (H.size + 1 + i) else none) else if H.size < b ∧ b ≤ H.size + N then (fun _ => none) else gc_Q σ b) = _
      rw [if_neg (by omega), if_neg (by omega)]
    · show (if b = H.size then N else if H.size < b ∧ b ≤ H.size + N then MM else gc_n σ b) = _
      rw [if_neg (by omega), if_neg (by omega)]
    · intro f
      show (if H.size ≤ b ∧ b ≤ H.size + N then (0 : Int32) else gc_I σ f b) = _
      rw [if_neg (by omega)]
    · intro f
      show (if H.size ≤ b ∧ b ≤ H.size + N then none else gc_R σ f b) = _
      rw [if_neg (by omega)]
  have hw2 : gc_w θ (gc_mul σ H.size N MM) U.heap := by
    refine gc_to h hws.symm ((hw.1.kept (fun k x hx => y3 x.1 ((hw.1 k x hx).lt))).app (fun k x hx => ?_)) ?_ hS2
    · obtain ⟨i, hi, rfl⟩ := List.mem_map.mp (List.mem_of_getElem? hx)
      have hi := List.mem_range.mp hi
      by_cases h0 : i = 0
      · subst h0
        have hk : gc_k (gc_mul σ H.size N MM) (H.size + 0) = 17 := if_pos rfl
        show va_at _ _ (H.size + 0, gc_e θ (gc_mul σ H.size N MM) (H.size + 0)) U.heap
        rw [gc_e_ref hk (by decide)]
        show U.heap[H.size + 0]? = some (vp_cell _ _)
        rw [vp_cell_q]
        have en : gc_n (gc_mul σ H.size N MM) (H.size + 0) = N := if_pos rfl
        have eq : gc_Q (gc_mul σ H.size N MM) (H.size + 0) = fun i => if i < N then some (H.size + 1 + i) else none := if_pos rfl
        rw [en, eq, Nat.add_zero, y2]
        congr 2
        funext j
        unfold gu_f
        by_cases hj : j < N
        · rw [if_pos hj]; show _ = va_rf (if j < N then _ else _); rw [if_pos hj]; rfl
        · rw [if_neg hj]; show _ = va_rf (if j < N then _ else _); rw [if_neg hj]; rfl
      · have hk : gc_k (gc_mul σ H.size N MM) (H.size + i) = 14 := by
          show (if H.size + i = H.size then 17 else if H.size < H.size + i ∧ H.size + i ≤ H.size + N then 14 else gc_k σ (H.size + i)) = 14
          rw [if_neg (by omega), if_pos (by omega)]
        show va_at _ _ (H.size + i, gc_e θ (gc_mul σ H.size N MM) (H.size + i)) U.heap
        rw [gc_e_num hk (by decide) (by decide)]
        show U.heap[H.size + i]? = some (vp_cell _ _)
        rw [vp_cell_i]
        have en : gc_n (gc_mul σ H.size N MM) (H.size + i) = MM := by
          show (if H.size + i = H.size then N else if H.size < H.size + i ∧ H.size + i ≤ H.size + N then MM else gc_n σ (H.size + i)) = MM
          rw [if_neg (by omega), if_pos (by omega)]
        have ee : gc_E (gc_mul σ H.size N MM) (H.size + i) = fun _ => 0 := by
          show (if H.size ≤ H.size + i ∧ H.size + i ≤ H.size + N then (fun _ => (0 : Int32)) else gc_E σ (H.size + i)) = _
          rw [if_pos (by omega)]
        rw [en, ee, show H.size + i = H.size + 1 + (i - 1) by omega]
        exact y4 (i - 1) (by omega)
    · have hY : ∀ (j : Nat) (x : Nat × va_E), ((List.range (N + 1)).map (fun i => (H.size + i, gc_e θ (gc_mul σ H.size N MM) (H.size + i))))[j]? = some x → x.1 = H.size + j := fun j x hx => by
        rw [List.getElem?_map] at hx
        by_cases hj : j < N + 1
        · rw [List.getElem?_range hj] at hx
          cases hx; rfl
        · rw [List.getElem?_eq_none (by rw [List.length_range]; omega)] at hx
          cases hx
      have hX : ∀ (j : Nat) (x : Nat × va_E), (gc_ws θ σ)[j]? = some x → x.1 < H.size := fun j x hx => (hw.1 j x hx).lt
      refine ⟨fun i j p1 p2 h1 h2 h3 => ?_, fun k x hx => ?_⟩
      · by_cases hi : i < (gc_ws θ σ).length <;> by_cases hj : j < (gc_ws θ σ).length
        · rw [List.getElem?_append_left hi] at h1
          rw [List.getElem?_append_left hj] at h2
          exact hw.2.1.1 i j p1 p2 h1 h2 h3
        · rw [List.getElem?_append_left hi] at h1
          rw [List.getElem?_append_right (by omega)] at h2
          have := hX _ _ h1; have := hY _ _ h2; omega
        · rw [List.getElem?_append_right (by omega)] at h1
          rw [List.getElem?_append_left hj] at h2
          have := hY _ _ h1; have := hX _ _ h2; omega
        · rw [List.getElem?_append_right (by omega)] at h1 h2
          have := hY _ _ h1; have := hY _ _ h2; omega
      · by_cases hk : k < (gc_ws θ σ).length
        · rw [List.getElem?_append_left hk] at hx
          exact hw.2.1.2 k x hx
        · rw [List.getElem?_append_right (by omega)] at hx
          rw [hY _ _ hx]; exact hA _
  obtain ⟨t, a1, b1⟩ := kk H.size (fun i _ => ⟨hfr i, hA i⟩) U.heap _ ls (cells + 1 + N) (slots + N + N * MM) hL hw2 hS2 (by omega) (by omega) U rfl XF
  have hTs : T.heap.size = H.size := by rw [hT]
  rw [hTs] at st1
  exact ⟨t, st1 t a1, b1⟩
end GMV
theorem gc_opt (r : Option Nat) : r = none ∨ ∃ a, r = some a := by
  cases r with
  | none => exact Or.inl rfl
  | some a => exact Or.inr ⟨a, rfl⟩
section GMW
variable {θ : gc_T} {K : gx_K} {M : gx_M} {Post : Outcome → gc_S → Prop} {pc : Nat} {L : List (Nat × Value)} {st : List Value} {σ : gc_S} {bc bs : Nat} {a : Nat}
theorem gc_rootNE {r : Option Nat} (h : gc_K θ K M) (e : r = none) (hc : (gx_My M).cls = "BranchMender") (hh : gx_Mh M = [(0, 21, 22, 123), (0, 21, 32, 125)]) (hpc : pc < 21) (hR : 8 ≤ (gx_Mm M).frames ∧ 10300 ≤ (gx_Mm M).locals) (hst : (st.map fun v => v.category).sum ≤ 8) (d : decode (gx_Mc M) pc = .ok (.getfield 114, 3)) (hbc : 1 ≤ bc) (hbs : 8 ≤ bs)
    (kk : ∀ a, gc_G θ K M Post 32 L [va_rf (some a)] σ (bc - 1) (bs - 8)) : gc_G θ K M Post pc L (va_rf r :: st) σ bc bs := by
  subst e; exact gc_rootN h hc hh hpc hR hst d hbc hbs kk
theorem gc_treeOE {r : Option Nat} (h : gc_K θ K M) (e : r = some a) (hc : (gx_My M).cls = "BranchMender") (hh : gx_Mh M = [(0, 21, 22, 123), (0, 21, 32, 125)]) (hpc : pc < 21) (hR : 8 ≤ (gx_Mm M).frames ∧ 10300 ≤ (gx_Mm M).locals) (hst : (st.map fun v => v.category).sum ≤ 8) (ha : gc_is σ a 19) (hn : gc_n σ a < 2 ^ 31) {i : Int32} (hi : ¬ vp_in i (gc_n σ a)) (d : decode (gx_Mc M) pc = .ok (.aaload, 1)) (hbc : 3 ≤ bc) (hbs : 222 ≤ bs)
    (kk : ∀ a, gc_G θ K M Post 22 L [va_rf (some a)] σ (bc - 3) (bs - 222)) : gc_G θ K M Post pc L (.int i :: va_rf r :: st) σ bc bs := by
  subst e; exact gc_treeO h hc hh hpc hR hst ha hn (Classical.not_not.mp hi) d hbc hbs kk
end GMW
