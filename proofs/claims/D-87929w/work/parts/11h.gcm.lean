/-! arrays of int arrays; the Class object of Object[] -/
theorem gc_AI {θ : gc_T} {U : State} (hz : gc_z θ U) (q : Cond.arrayOver (.array .int) ∈ lw_tbl) : ∃ kA kI : Class, U.vm.classes[gc_c θ 17]? = some kA ∧ kA.kind = .array (gc_c θ 14) (.array .int) ∧ U.vm.classes[gc_c θ 14]? = some kI := by
  obtain ⟨comp, c, k, h1, -, h3, h4, h5⟩ := arrayOverA_spec (hz.2.1 _ q rfl)
  have e1 : comp = gc_c θ 14 := Option.some.inj (h1.symm.trans (hz.1.2 0 _ rfl).2)
  have e2 : c = gc_c θ 17 := Option.some.inj (h5.symm.trans (hz.1.2 3 _ rfl).2)
  subst e1 e2
  obtain ⟨kI, hkI, -⟩ := Vm.findClass_spec h1
  exact ⟨k, kI, h3, h4, hkI⟩
section GCMA
variable {θ : gc_T} {K : gx_K} {M : gx_M} {Post : Outcome → gc_S → Prop} {pc : Nat} {L : List (Nat × Value)} {st : List Value} {σ : gc_S} {bc bs : Nat} {a : Nat}
theorem gc_aast17 (h : gc_K θ K M) (q : Cond.arrayOver (.array .int) ∈ lw_tbl) (ha : gc_is σ a 17) {v : Nat} (hv : gc_is σ v 14) {i : Int32} (hi : vp_in i (gc_n σ a)) (d : decode (gx_Mc M) pc = .ok (.aastore, 1)) (kk : gc_G θ K M Post (pc + 1) L st (gc_sQ σ a i.toNatClampNeg (some v)) bc bs) : gc_G θ K M Post pc L (.ref v :: .int i :: .ref a :: st) σ bc bs := by
  obtain ⟨kA, kI, g1, g2, g3⟩ := gc_AI h.2.2.2.2.2.2.2.1 q
  obtain ⟨x, hx⟩ := gc_at (θ := θ) ha.1
  obtain ⟨x2, hx2⟩ := gc_at (θ := θ) hv.1
  have hx' := hx
  rw [gc_e_ref ha.2 (by decide)] at hx
  rw [gc_e_num hv.2 (by decide) (by decide)] at hx2
  intro H locs ls c n hL hw hS e1 e2
  have hlt : i.toNatClampNeg < gc_n σ a := Nat.not_le.mp fun q => hi (Or.inr q)
  have h0 : ¬ i < 0 := fun q => hi (Or.inl q)
  have hcv : H[v]? = some (vp_cell (gc_c θ 14) (gc_n σ v, .inl (gc_E σ v))) := hw.1 x2 _ hx2
  refine W.aast (cv := vp_cell (gc_c θ 14) (gc_n σ v, .inl (gc_E σ v))) h.1 h.2.1 (hw.1 x _ hx) (fun q h => by cases h) (fun h => by cases h) g1 g2 rfl g3 ⟨h0, by show _ < (arrV _ _ _).slots.size; rw [arrV_size]; exact hlt⟩ hcv (fun q h => by rw [vp_cell_i] at h; cases h) (by rw [vp_cell_i]; exact g3) (by rw [vp_cell_i]; exact va_asg _ _) rfl rfl d fun H1 e z oq => ?_
  have hP := hw.1.set hw.2.1 hx (e := .inl (gc_c θ 17, gc_n σ a, .inr (.inr (.inr (.inr (va_up (gc_Q σ a) i.toNatClampNeg (some v))))))) (by
    show H1[a]? = some (vp_cell _ _)
    rw [e]
    rw [vp_cell_q, vp_cell_q, arrV_store]
    congr 2
    funext q
    by_cases hq : q = i.toNatClampNeg
    · subst hq
      simp [updV, va_up, va_rf]
    · simp [updV, va_up, hq]) oq
  have hS' := hS.put (k := i.toNatClampNeg) z oq (hw.2.1.2 x _ hx)
  exact kk H1 _ ls c n hL (gc_to h (gc_set hw.2.1 ha.1 hx' rfl (gc_up_Q ha.2 (by decide))) hP (hw.2.1.set hx) hS') hS' e1 e2
theorem gc_newA (h : gc_K θ K M) {own : String} {idx : Nat} (hc : (gx_My M).cls = own) (q1 : Cond.classLink own idx (FieldType.array .int).toString ∈ lw_all) (q : Cond.arrayOver (.array .int) ∈ lw_tbl) {i : Int32} (hi : ¬ i < 0) (hm : i.toNatClampNeg ≤ 100000) (d : decode (gx_Mc M) pc = .ok (.anewarray idx, 3)) (hbc : 1 ≤ bc) (hbs : i.toNatClampNeg ≤ bs)
    (kk : ∀ q, q ∉ gc_d σ → gc_A θ q → gc_G θ K M Post (pc + 3) L (.ref q :: st) (gc_new σ q 17 i.toNatClampNeg) (bc - 1) (bs - i.toNatClampNeg)) : gc_G θ K M Post pc L (.int i :: st) σ bc bs := by
  intro H locs ls c n hL hw hS e1 e2
  have hRM := h.2.2.2.2.2.2.2.2.1
  have hz := h.2.2.2.2.2.2.2.1
  refine W.anewA h.1 h.2.1 (hc ▸ h.2.2.2.1) (h.2.2.2.2.1 _ q1) (hz.2.1 _ q rfl) rfl d rfl hi (by omega) (by rw [hRM]; omega) (by rw [hRM]; omega) fun cA kA comp f1 f2 f3 f4 => ?_
  have hcA : cA = gc_c θ 17 := Option.some.inj (f1.symm.trans (hz.1.2 3 _ rfl).2)
  subst hcA
  generalize hH1 : H.push ({ cls := gc_c θ 17, slots := Array.replicate i.toNatClampNeg .null, vm := .none } : Cell) = H1
  have z1 : H1.size = H.size + 1 := by rw [← hH1, Array.size_push]
  have x1 : H1[H.size]? = some (arrV (gc_c θ 17) i.toNatClampNeg (fun _ => .null)) := by rw [← hH1, Array.getElem?_push_size, ← arrV_new]
  have o1 : ∀ q : Nat, q < H.size → H1[q]? = H[q]? := fun q hq => by rw [← hH1, Array.getElem?_push, if_neg (Nat.ne_of_lt hq)]
  have hk : ∀ (k : Nat) (x : Nat × va_E), (gc_ws θ σ)[k]? = some x → H1[x.1]? = H[x.1]? := fun k x hx => o1 x.1 ((hw.1 k x hx).lt)
  have hA : gc_A θ H.size := hw.2.2.1 _ (Nat.le_refl _)
  have hfr : H.size ∉ gc_d σ := fun z => by
    obtain ⟨x, hx⟩ := gc_at (θ := θ) z
    exact absurd ((hw.1 x _ hx).lt) (Nat.lt_irrefl _)
  have hP : va_P (gc_D θ) gc_cl (gc_ws θ σ ++ [(H.size, .inl (gc_c θ 17, i.toNatClampNeg, .inr (.inr (.inr (.inr (fun _ => none))))))]) H1 := (hw.1.kept hk).app (fun k x hx => by
    have hz : k < 1 := (List.getElem?_eq_some_iff.mp hx).1
    rw [show k = 0 by omega] at hx
    cases hx
    show H1[H.size]? = some (vp_cell _ _)
    rw [vp_cell_q]
    exact x1)
  have hD : va_D (gc_A θ) (gc_ws θ σ ++ [(H.size, .inl (gc_c θ 17, i.toNatClampNeg, .inr (.inr (.inr (.inr (fun _ => none))))))]) := hw.2.1.push hw.1 rfl hA
  have hS' : va_S (gc_A θ) (gx_s K).heap H1 locs := ⟨Nat.le_trans hS.1 (by omega), fun x h1 h2 => (o1 x (Nat.lt_of_lt_of_le h1 hS.1)).trans (hS.2.1 x h1 h2), hS.2.2⟩
  refine kk H.size hfr hA H1 locs ls _ _ hL (gc_to h (gc_push hfr ?_) hP hD hS') hS' (by omega) (by omega)
  rw [gc_e_ref (k := 17) (va_up_self _ _ _) (by decide)]
  show Sum.inl (gc_c θ 17, va_up (gc_n σ) H.size i.toNatClampNeg H.size, Sum.inr (Sum.inr (Sum.inr (Sum.inr (va_up (gc_Q σ) H.size (fun _ => none) H.size))))) = _
  rw [va_up_self, va_up_self]
theorem gc_ldcM (h : gc_K θ K M) {own : String} {idx : Nat} (hc : (gx_My M).cls = own) (q1 : Cond.classLink own idx "[Ljava/lang/Object;" ∈ lw_all) (d : decode (gx_Mc M) pc = .ok (.ldc idx, 2)) (k : gc_G θ K M Post (pc + 2) L (va_rf (some (gc_aM θ)) :: st) σ bc bs) : gc_G θ K M Post pc L st σ bc bs :=
  fun H locs ls c n hL hw hS e1 e2 => va_ldcM h.1 h.2.1 (hc ▸ h.2.2.2.1) (h.2.2.2.2.1 _ q1) h.2.2.2.2.2.2.2.1.2.2.2.2.2.1 d (k H locs ls c n hL hw hS e1 e2)
theorem gc_getC (h : gc_K θ K M) {own : String} {idx : Nat} (hc : (gx_My M).cls = own) (q1 : Cond.methodLink own idx ⟨"java/lang/Object", "getClass", "()Ljava/lang/Class;"⟩ ∈ lw_all) (q2 : Cond.declares ⟨"java/lang/Object", "getClass", "()Ljava/lang/Class;"⟩ ∈ lw_tbl) (q3 : Cond.selects "[Ljava/lang/Object;" ⟨"java/lang/Object", "getClass", "()Ljava/lang/Class;"⟩ ⟨"java/lang/Object", "getClass", "()Ljava/lang/Class;"⟩ ∈ lw_all)
    (q4 : Cond.instanceMethod ⟨"java/lang/Object", "getClass", "()Ljava/lang/Class;"⟩ ∈ lw_all) (q5 : Cond.native ⟨"java/lang/Object", "getClass", "()Ljava/lang/Class;"⟩ ∈ lw_all) (hR : 1 ≤ (gx_Mm M).frames ∧ 22 ≤ (gx_Mm M).locals) {r : Option Nat} (e : r = some a) (ha : gc_is σ a 20) (hst : (st.map fun v => v.category).sum ≤ 8) (d : decode (gx_Mc M) pc = .ok (.invokevirtual idx, 3)) (k : gc_G θ K M Post (pc + 3) L (va_rf (some (gc_aM θ)) :: st) σ bc bs) : gc_G θ K M Post pc L (va_rf r :: st) σ bc bs := by
  subst e
  intro H locs ls c n hL hw hS e1 e2
  have hRM := h.2.2.2.2.2.2.2.2.1
  have hz := h.2.2.2.2.2.2.2.1
  obtain ⟨x, hx⟩ := gc_at (θ := θ) ha.1
  rw [gc_e_ref ha.2 (by decide)] at hx
  refine va_getC h.1 h.2.1 (h.2.2.1.trans hL.1.symm) (hc ▸ h.2.2.2.1) (h.2.2.2.2.1 _ q1) (va_Nw.use rfl (hz.2.1 _ q2 rfl)) (h.2.2.2.2.1 _ q3) (h.2.2.2.2.1 _ q4) (h.2.2.2.2.1 _ q5) hz.2.2.2.2.2.1 ⟨_, hw.1 x _ hx, by rw [vp_cell_q]; rfl, ?_⟩ (by rw [hRM]; exact hR.1) (by rw [hRM]; omega) d (k H locs ls c n hL hw hS e1 e2)
  rw [vp_cell_q]
  exact va_nmO (hz.1.2 6 _ rfl).2 rfl
end GCMA
