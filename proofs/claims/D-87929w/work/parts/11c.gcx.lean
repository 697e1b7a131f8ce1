/-! ROWS FOR System.arraycopy AND Math.max -/
section GCX
variable {θ : gc_T} {K : gx_K} {M : gx_M} {Post : Outcome → gc_S → Prop} {pc : Nat} {L : List (Nat × Value)} {st : List Value} {σ : gc_S} {bc bs : Nat} {a : Nat}
/-- so many places of an array are copied into another (or the same) one -/
def gc_cE (σ : gc_S) (a0 a sp dp n : Nat) : gc_S := (gc_d σ, gc_k σ, gc_I σ, gc_R σ, va_up (gc_E σ) a (va_cpy (gc_E σ a0) (gc_E σ a) sp dp n), gc_Q σ, gc_n σ)
def gc_cQ (σ : gc_S) (a0 a sp dp n : Nat) : gc_S := (gc_d σ, gc_k σ, gc_I σ, gc_R σ, gc_E σ, va_up (gc_Q σ) a (va_cpy (gc_Q σ a0) (gc_Q σ a) sp dp n), gc_n σ)
theorem gc_up_Ec {θ : gc_T} {σ σ' : gc_S} {a k : Nat} {f : Nat → Int32} (hk : gc_k σ a = k) (h1 : 14 ≤ k) (h2 : k < 17) (hs : σ' = (gc_d σ, gc_k σ, gc_I σ, gc_R σ, va_up (gc_E σ) a f, gc_Q σ, gc_n σ)) : ∀ b, va_up (gc_e θ σ) a (.inl (gc_c θ k, gc_n σ a, .inl f)) b = gc_e θ σ' b := by
  subst hs
  intro b
  by_cases hb : b = a
  · subst hb
    rw [va_up_self, gc_e_num (σ := (gc_d σ, gc_k σ, gc_I σ, gc_R σ, va_up (gc_E σ) b f, gc_Q σ, gc_n σ)) (k := k) hk h1 h2]
    show _ = Sum.inl (gc_c θ k, gc_n σ b, Sum.inl (va_up (gc_E σ) b f b))
    rw [va_up_self]
  · rw [va_up_ne _ _ hb]
    exact gc_e_congr rfl (va_up_ne _ _ hb) rfl rfl (fun _ => rfl) (fun _ => rfl)
theorem gc_up_Qc {θ : gc_T} {σ σ' : gc_S} {a k : Nat} {f : Nat → Option Nat} (hk : gc_k σ a = k) (h1 : 17 ≤ k) (hs : σ' = (gc_d σ, gc_k σ, gc_I σ, gc_R σ, gc_E σ, va_up (gc_Q σ) a f, gc_n σ)) : ∀ b, va_up (gc_e θ σ) a (.inl (gc_c θ k, gc_n σ a, .inr (.inr (.inr (.inr f))))) b = gc_e θ σ' b := by
  subst hs
  intro b
  by_cases hb : b = a
  · subst hb
    rw [va_up_self, gc_e_ref (σ := (gc_d σ, gc_k σ, gc_I σ, gc_R σ, gc_E σ, va_up (gc_Q σ) b f, gc_n σ)) (k := k) hk h1]
    show _ = Sum.inl (gc_c θ k, gc_n σ b, Sum.inr (Sum.inr (Sum.inr (Sum.inr (va_up (gc_Q σ) b f b)))))
    rw [va_up_self]
  · rw [va_up_ne _ _ hb]
    exact gc_e_congr rfl rfl (va_up_ne _ _ hb) rfl (fun _ => rfl) (fun _ => rfl)
/-- what an Object array holds here: a node, an Integer of ours, a cached Integer -/
def gc_isV (θ : gc_T) (σ : gc_S) (y : Nat) : Prop := gc_isN σ y ∨ gc_is σ y 13 ∨ ∃ i, i < 256 ∧ y = gc_ch θ i
theorem gc_chP {H : Heap} (hth : gc_th θ) (hw : gc_w θ σ H) {i : Nat} (hi : i < 256) : va_P (gc_D θ) gc_cl [(gc_ch θ i, .inr (13, [.int (Int32.ofNat i - 128)]))] H := fun k q hq => by
  match k, hq with
  | 0, hq =>
    cases hq
    obtain ⟨r, hr, hob⟩ := hth.2.2.2 i hi 0 _ rfl
    refine ⟨r, hr, hob.kept ?_⟩
    obtain ⟨cell, h1, -⟩ := hob
    exact hw.2.2.2.2.2 _ (Array.getElem?_eq_some_iff.mp h1).1
  | k + 1, hq => simp at hq
theorem gc_anyO {H : Heap} {y : Nat} (h : gc_K θ K M) (w8 : Cond.castable "BranchMender$Branch" "java/lang/Object" ∈ lw_tbl) (w9 : Cond.castable "BranchMender$Bag" "java/lang/Object" ∈ lw_tbl) (w10 : Cond.castable "BranchMender$Keyed" "java/lang/Object" ∈ lw_tbl) (w11 : Cond.castable "BranchMender$Whole" "java/lang/Object" ∈ lw_tbl) (w13 : Cond.castable "java/lang/Integer" "java/lang/Object" ∈ lw_tbl) (hw : gc_w θ σ H) (hy : gc_isV θ σ y) : va_Any "java/lang/Object" (gx_s K) H y := by
  have hz := h.2.2.2.2.2.2.2.1
  have asg : ∀ (C : String), Cond.castable C "java/lang/Object" ∈ lw_tbl → ∀ comp c0 : ClassId, (gx_s K).vm.findClass "java/lang/Object" = some comp → (gx_s K).vm.findClass C = some c0 → (gx_s K).vm.assignable c0 comp = true := by
    intro C hcst comp c0 g1 g2
    obtain ⟨cc, tt, f1, f2, f3⟩ := Cond.castable_spec (va_Nw.use (A := gx_a K) rfl (hz.2.1 _ hcst rfl))
    cases f1.symm.trans g2
    cases f2.symm.trans g1
    exact f3
  have any : ∀ (k : Nat) (r : vw_C), k < 14 → gc_cl[k]? = some r → Cond.castable r.1 "java/lang/Object" ∈ lw_tbl → gc_is σ y k → va_Any "java/lang/Object" (gx_s K) H y := by
    intro k r hk hr hcst hy
    obtain ⟨p2, hp2⟩ := gc_at (θ := θ) hy.1
    rw [gc_e_obj hy.2 hk] at hp2
    exact va_rAny hz.1 hw.1 hp2 hr (asg _ hcst)
  rcases hy with hn | hn | ⟨i, hi, rfl⟩
  · have hk : gc_k σ y = 8 ∨ gc_k σ y = 9 ∨ gc_k σ y = 10 ∨ gc_k σ y = 11 := by have := hn.2; omega
    rcases hk with hk | hk | hk | hk
    · exact any 8 _ (by decide) rfl w8 ⟨hn.1, hk⟩
    · exact any 9 _ (by decide) rfl w9 ⟨hn.1, hk⟩
    · exact any 10 _ (by decide) rfl w10 ⟨hn.1, hk⟩
    · exact any 11 _ (by decide) rfl w11 ⟨hn.1, hk⟩
  · exact any 13 _ (by decide) rfl w13 hn
  · exact va_rAny hz.1 (gc_chP hz.2.2.1 hw hi) (q0 := 0) rfl (r := (RJ16, TJ16, 1)) rfl (asg _ w13)
/-- storing such a value into an Object array -/
theorem gc_aastV {v : Nat} (h : gc_K θ K M) (w8 : Cond.castable "BranchMender$Branch" "java/lang/Object" ∈ lw_tbl) (w9 : Cond.castable "BranchMender$Bag" "java/lang/Object" ∈ lw_tbl) (w10 : Cond.castable "BranchMender$Keyed" "java/lang/Object" ∈ lw_tbl) (w11 : Cond.castable "BranchMender$Whole" "java/lang/Object" ∈ lw_tbl) (w13 : Cond.castable "java/lang/Integer" "java/lang/Object" ∈ lw_tbl) (ha : gc_is σ a 20) (hv : gc_isV θ σ v) {i : Int32} (hi : vp_in i (gc_n σ a)) (d : decode (gx_Mc M) pc = .ok (.aastore, 1)) (kk : gc_G θ K M Post (pc + 1) L st (gc_sQ σ a i.toNatClampNeg (some v)) bc bs) : gc_G θ K M Post pc L (.ref v :: .int i :: .ref a :: st) σ bc bs := by
  obtain ⟨q, hq⟩ := gc_at (θ := θ) ha.1
  have hq' := hq
  rw [gc_e_ref ha.2 (by decide)] at hq
  exact fun H locs ls c n hL hw hS e1 e2 => va_astqM h.1 h.2.1 h.2.2.2.2.2.2.2.1.1 hw.1 hw.2.1 hS q 6 hq rfl (gc_anyO h w8 w9 w10 w11 w13 hw hv) hi d (fun H1 locs1 hP hD hS => kk H1 locs1 ls c n hL (gc_to h (gc_set hw.2.1 ha.1 hq' rfl (gc_up_Q ha.2 (by decide))) hP hD hS) hS e1 e2)
/-- an Object array's places into an Object array -/
theorem gc_acopyO (h : gc_K θ K M) {own : String} {i a0 : Nat} (hc : (gx_My M).cls = own) (q1 : Cond.methodLink own i arraycopyName ∈ lw_all) (q2 : Cond.native arraycopyName ∈ lw_all) (q3 : Cond.static arraycopyName ∈ lw_all) (q4 : Cond.initialized "java/lang/System" ∈ lw_all) (w8 : Cond.castable "BranchMender$Branch" "java/lang/Object" ∈ lw_tbl) (w9 : Cond.castable "BranchMender$Bag" "java/lang/Object" ∈ lw_tbl) (w10 : Cond.castable "BranchMender$Keyed" "java/lang/Object" ∈ lw_tbl) (w11 : Cond.castable "BranchMender$Whole" "java/lang/Object" ∈ lw_tbl) (w13 : Cond.castable "java/lang/Integer" "java/lang/Object" ∈ lw_tbl)
    (hR : 1 ≤ (gx_Mm M).frames ∧ 40 ≤ (gx_Mm M).locals) (ha0 : gc_is σ a0 20) (ha : gc_is σ a 20) {sp dp n : Int32} (h1 : ¬ sp < 0) (h2 : ¬ dp < 0) (h3 : ¬ n < 0) (h4 : sp.toNatClampNeg + n.toNatClampNeg ≤ gc_n σ a0) (h5 : dp.toNatClampNeg + n.toNatClampNeg ≤ gc_n σ a)
    (hel : ∀ j, j < n.toNatClampNeg → ∀ y, gc_Q σ a0 (sp.toNatClampNeg + j) = some y → gc_isV θ σ y) (hst : (st.map fun v => v.category).sum ≤ 8) (d : decode (gx_Mc M) pc = .ok (.invokestatic i, 3))
    (kk : gc_G θ K M Post (pc + 3) L st (gc_cQ σ a0 a sp.toNatClampNeg dp.toNatClampNeg n.toNatClampNeg) bc bs) : gc_G θ K M Post pc L (.int n :: .int dp :: .ref a :: .int sp :: .ref a0 :: st) σ bc bs := by
  intro H locs ls c m hL hw hS e1 e2
  obtain ⟨p0, hp0⟩ := gc_at (θ := θ) ha0.1
  obtain ⟨p1, hp1⟩ := gc_at (θ := θ) ha.1
  have hp1' := hp1
  rw [gc_e_ref ha0.2 (by decide)] at hp0
  rw [gc_e_ref ha.2 (by decide)] at hp1
  have hz := h.2.2.2.2.2.2.2.1
  have hRM := h.2.2.2.2.2.2.2.2.1
  refine va_copyM h.1 h.2.1 (h.2.2.1.trans hL.1.symm) (hc ▸ h.2.2.2.1) (h.2.2.2.2.1 _ q1) (h.2.2.2.2.1 _ q2) (h.2.2.2.2.1 _ q3) (h.2.2.2.2.1 _ q4) hz.1 hw.1 hw.2.1 hS p0 p1 6 6 hp0 hp1 rfl rfl h1 h2 h3 h4 h5 ?_ (by rw [hRM]; exact hR.1) ?_ d (fun H1 locs1 hP hD hS => kk H1 locs1 ls c m hL (gc_to h (gc_set hw.2.1 ha.1 hp1' rfl (gc_up_Qc ha.2 (by decide) rfl)) hP hD hS) hS e1 e2)
  · intro j hj y hy
    exact gc_anyO h w8 w9 w10 w11 w13 hw (hel j hj y hy)
  · rw [hRM]
    have : nativeFrameWords "java/lang/System" "arraycopy" 5 + 11 ≤ 32 := by decide
    have := hR.2
    omega
/-- a byte array's places into a byte array -/
theorem gc_acopyB (h : gc_K θ K M) {own : String} {i a0 : Nat} (hc : (gx_My M).cls = own) (q1 : Cond.methodLink own i arraycopyName ∈ lw_all) (q2 : Cond.native arraycopyName ∈ lw_all) (q3 : Cond.static arraycopyName ∈ lw_all) (q4 : Cond.initialized "java/lang/System" ∈ lw_all)
    (hR : 1 ≤ (gx_Mm M).frames ∧ 40 ≤ (gx_Mm M).locals) (ha0 : gc_is σ a0 15) (ha : gc_is σ a 15) {sp dp n : Int32} (h1 : ¬ sp < 0) (h2 : ¬ dp < 0) (h3 : ¬ n < 0) (h4 : sp.toNatClampNeg + n.toNatClampNeg ≤ gc_n σ a0) (h5 : dp.toNatClampNeg + n.toNatClampNeg ≤ gc_n σ a)
    (hel : ∀ j, j < n.toNatClampNeg → fits .byte (.int (gc_E σ a0 (sp.toNatClampNeg + j))) = true) (hst : (st.map fun v => v.category).sum ≤ 8) (d : decode (gx_Mc M) pc = .ok (.invokestatic i, 3))
    (kk : gc_G θ K M Post (pc + 3) L st (gc_cE σ a0 a sp.toNatClampNeg dp.toNatClampNeg n.toNatClampNeg) bc bs) : gc_G θ K M Post pc L (.int n :: .int dp :: .ref a :: .int sp :: .ref a0 :: st) σ bc bs := by
  intro H locs ls c m hL hw hS e1 e2
  obtain ⟨p0, hp0⟩ := gc_at (θ := θ) ha0.1
  obtain ⟨p1, hp1⟩ := gc_at (θ := θ) ha.1
  have hp1' := hp1
  rw [gc_e_num ha0.2 (by decide) (by decide)] at hp0
  rw [gc_e_num ha.2 (by decide) (by decide)] at hp1
  have hz := h.2.2.2.2.2.2.2.1
  have hRM := h.2.2.2.2.2.2.2.2.1
  refine va_copyi h.1 h.2.1 (h.2.2.1.trans hL.1.symm) (hc ▸ h.2.2.2.1) (h.2.2.2.2.1 _ q1) (h.2.2.2.2.1 _ q2) (h.2.2.2.2.1 _ q3) (h.2.2.2.2.1 _ q4) hz.1 hw.1 hw.2.1 hS p0 p1 1 1 hp0 hp1 rfl rfl rfl h1 h2 h3 h4 h5 hel (by rw [hRM]; exact hR.1) ?_ d (fun H1 locs1 hP hD hS => kk H1 locs1 ls c m hL (gc_to h (gc_set hw.2.1 ha.1 hp1' rfl (gc_up_Ec ha.2 (by decide) (by decide) rfl)) hP hD hS) hS e1 e2)
  rw [hRM]
  have : nativeFrameWords "java/lang/System" "arraycopy" 5 + 11 ≤ 32 := by decide
  have := hR.2
  omega
end GCX
theorem gx_max {S : Type} {O : gx_O S} {K : gx_K} {M : gx_M} {Post : Outcome → S → Prop} {pc : Nat} {L : List (Nat × Value)} {st : List Value} {x : S} {bc bs : Nat} (h : gx_OK O K M) {i : Nat} {u v : Int32} (q1 : Cond.methodLink (gx_My M).cls i Lib.Math.max.name ∈ lw_all) (q2 : Cond.static Lib.Math.max.name ∈ lw_all) (q3 : Cond.initialized "java/lang/Math" ∈ lw_all) (q4 : Cond.code Lib.Math.max.name Lib.Math.max.code 2 (some .int) ∈ lw_all) (hR : 1 ≤ (gx_Mm M).frames ∧ 21 ≤ (gx_Mm M).locals) (hst : (st.map fun v => v.category).sum ≤ 8) (d : decode (gx_Mc M) pc = .ok (.invokestatic i, 3))
    (k : gx_G O K M Post (pc + 3) L (.int (if u < v then v else u) :: st) x bc bs) : gx_G O K M Post pc L (.int v :: .int u :: st) x bc bs :=
  fun H locs ls c n hL hw hS e1 e2 => va_mmax h.1 h.2.1 (h.2.2.1.trans hL.1.symm) h.2.2.2.1 (h.2.2.2.2.1 _ q1) (h.2.2.2.2.1 _ q2) (h.2.2.2.2.1 _ q3) (h.2.2.2.2.1 _ q4) (by rw [h.2.2.2.2.2.2.2.2.1]; exact hR.1) (by rw [h.2.2.2.2.2.2.2.2.1]; omega) (by rw [h.2.2.2.2.2.2.2.2.1]; omega) (by rw [h.2.2.2.2.2.2.2.2.1]; omega) d (k H locs ls c n hL hw hS e1 e2)
