/-! MORE ROWS: casts, statics, arrays of objects, empty arrays, handlers -/
theorem gx_ishr {S : Type} {O : gx_O S} {K : gx_K} {M : gx_M} {Post : Outcome → S → Prop} {pc : Nat} {L : List (Nat × Value)} {st : List Value} {x : S} {bc bs : Nat} (h : gx_OK O K M) {u v : Int32} (d : decode (gx_Mc M) pc = .ok (.ishr, 1)) (k : gx_G O K M Post (pc + 1) L (.int (u >>> (v &&& 31)) :: st) x bc bs) : gx_G O K M Post pc L (.int v :: .int u :: st) x bc bs :=
  fun H locs ls c n hL hw hS e1 e2 => lv_ishr h.1 h.2.1 d (k H locs ls c n hL hw hS e1 e2)
section GCS
variable {θ : gc_T} {K : gx_K} {M : gx_M} {Post : Outcome → gc_S → Prop} {pc : Nat} {L : List (Nat × Value)} {st : List Value} {σ : gc_S} {bc bs : Nat} {a : Nat}
theorem gc_same (h : gc_K θ K M) : gc_agree θ (gx_s K).heap := by obtain ⟨σ0, h0⟩ := gc_start h; exact ⟨h0.2.2.2.2.1, h0.2.2.2.2.2⟩
theorem gc_castN (h : gc_K θ K M) {own : String} {i : Nat} (hc : (gx_My M).cls = own) (q1 : Cond.classLink own i "BranchMender$Node" ∈ lw_all) (w8 : Cond.castable "BranchMender$Branch" "BranchMender$Node" ∈ lw_tbl) (w9 : Cond.castable "BranchMender$Bag" "BranchMender$Node" ∈ lw_tbl) (w10 : Cond.castable "BranchMender$Keyed" "BranchMender$Node" ∈ lw_tbl) (w11 : Cond.castable "BranchMender$Whole" "BranchMender$Node" ∈ lw_tbl)
    {r : Option Nat} (ha : ∀ a, r = some a → gc_isN σ a) (d : decode (gx_Mc M) pc = .ok (.checkcast i, 3)) (k : gc_G θ K M Post (pc + 3) L (va_rf r :: st) σ bc bs) : gc_G θ K M Post pc L (va_rf r :: st) σ bc bs := by
  cases r with
  | none => exact fun H locs ls c n hL hw hS e1 e2 => lv_castN h.1 h.2.1 d (k H locs ls c n hL hw hS e1 e2)
  | some a =>
    have ha := ha a rfl
    have hz := h.2.2.2.2.2.2.2.1
    have hk : gc_k σ a = 8 ∨ gc_k σ a = 9 ∨ gc_k σ a = 10 ∨ gc_k σ a = 11 := by have := ha.2; omega
    intro H locs ls c n hL hw hS e1 e2
    rcases hk with hk | hk | hk | hk
    · exact va_castY h.1 h.2.1 h.2.2.2.1 (h.2.2.2.2.1 _ (hc ▸ q1)) (hz.2.1 _ w8 rfl) (gc_recv h (k := 8) rfl ⟨ha.1, hk⟩ (by decide) H hw) d (k H locs ls c n hL hw hS e1 e2)
    · exact va_castY h.1 h.2.1 h.2.2.2.1 (h.2.2.2.2.1 _ (hc ▸ q1)) (hz.2.1 _ w9 rfl) (gc_recv h (k := 9) rfl ⟨ha.1, hk⟩ (by decide) H hw) d (k H locs ls c n hL hw hS e1 e2)
    · exact va_castY h.1 h.2.1 h.2.2.2.1 (h.2.2.2.2.1 _ (hc ▸ q1)) (hz.2.1 _ w10 rfl) (gc_recv h (k := 10) rfl ⟨ha.1, hk⟩ (by decide) H hw) d (k H locs ls c n hL hw hS e1 e2)
    · exact va_castY h.1 h.2.1 h.2.2.2.1 (h.2.2.2.2.1 _ (hc ▸ q1)) (hz.2.1 _ w11 rfl) (gc_recv h (k := 11) rfl ⟨ha.1, hk⟩ (by decide) H hw) d (k H locs ls c n hL hw hS e1 e2)
/-- BranchMender.EMPTY, in the class itself and in a nest mate -/
theorem gc_empty (h : gc_K θ K M) {own : String} {i : Nat} (hc : (gx_My M).cls = own) (q1 : Cond.fieldLink own i "BranchMender" "EMPTY" "[B" ∈ lw_all) (d : decode (gx_Mc M) pc = .ok (.getstatic i, 3)) (k : gc_G θ K M Post (pc + 3) L (va_rf (some (gc_aE θ)) :: st) σ bc bs) : gc_G θ K M Post pc L st σ bc bs :=
  fun H locs ls c n hL hw hS e1 e2 => va_gets h.1 h.2.1 (h.2.2.2.2.2.2.2.1.2.2.2.1 _ (gc_same h)).1 hS (hc ▸ h.2.2.2.1) (h.2.2.2.2.1 _ q1) (fun _ h9 => h9) d (k H locs ls c n hL hw hS e1 e2)
theorem gc_emptyN (h : gc_K θ K M) {own host : String} {i : Nat} (hc : (gx_My M).cls = own) (q1 : Cond.fieldLinkNest own i "BranchMender" "EMPTY" "[B" host ∈ lw_tbl) (d : decode (gx_Mc M) pc = .ok (.getstatic i, 3)) (k : gc_G θ K M Post (pc + 3) L (va_rf (some (gc_aE θ)) :: st) σ bc bs) : gc_G θ K M Post pc L st σ bc bs :=
  fun H locs ls c n hL hw hS e1 e2 => va_getsN h.1 h.2.1 (h.2.2.2.2.2.2.2.1.2.2.2.1 _ (gc_same h)).1 hS (hc ▸ h.2.2.2.1) (va_Nw.use rfl (h.2.2.2.2.2.2.2.1.2.1 _ q1 rfl)) (fun _ h9 => h9) d (k H locs ls c n hL hw hS e1 e2)
theorem gc_dflt (h : gc_K θ K M) {own : String} {i : Nat} (hc : (gx_My M).cls = own) (q1 : Cond.fieldLink own i "java/util/ArrayList" "DEFAULTCAPACITY_EMPTY_ELEMENTDATA" "[Ljava/lang/Object;" ∈ lw_all) (d : decode (gx_Mc M) pc = .ok (.getstatic i, 3)) (k : gc_G θ K M Post (pc + 3) L (va_rf (some (gc_aD θ)) :: st) σ bc bs) : gc_G θ K M Post pc L st σ bc bs :=
  fun H locs ls c n hL hw hS e1 e2 => va_gets h.1 h.2.1 (h.2.2.2.2.2.2.2.1.2.2.2.1 _ (gc_same h)).2.1 hS (hc ▸ h.2.2.2.1) (h.2.2.2.2.1 _ q1) (fun _ h9 => h9) d (k H locs ls c n hL hw hS e1 e2)
/-- a byte array, the empty one among them -/
def gc_isB (θ : gc_T) (σ : gc_S) (a : Nat) : Prop := gc_is σ a 15 ∨ (a = gc_aE θ ∧ gc_n σ a = 0)
theorem gc_alenB (h : gc_K θ K M) (ha : gc_isB θ σ a) (d : decode (gx_Mc M) pc = .ok (.arraylength, 1)) (kk : gc_G θ K M Post (pc + 1) L (.int (Int32.ofNat (gc_n σ a)) :: st) σ bc bs) : gc_G θ K M Post pc L (.ref a :: st) σ bc bs := by
  rcases ha with ha | ⟨rfl, h0⟩
  · exact gc_alen (k := 15) (t := 1) (by decide) rfl h ha d kk
  · intro H locs ls c n hL hw hS e1 e2
    rw [h0] at kk
    have hz := h.2.2.2.2.2.2.2.1
    have hth := hz.2.2.1.1
    have hat : va_P (gc_D θ) gc_cl [(gc_aE θ, .inl (gc_c θ 15, 0, .inl (fun _ => 0)))] H := fun q x hq => by
      match q, hq with
      | 0, hq =>
        cases hq
        show H[gc_aE θ]? = _
        rw [hw.2.2.2.2.2 _ (Array.getElem?_eq_some_iff.mp hth).1]
        exact hth
      | q + 1, hq => simp at hq
    exact va_alen h.1 h.2.1 hz.1 hat 0 1 rfl rfl rfl d (kk H locs ls c n hL hw hS e1 e2)
/-- an Object array, the empty one among them -/
def gc_isO (θ : gc_T) (σ : gc_S) (a : Nat) : Prop := gc_is σ a 20 ∨ (a = gc_aD θ ∧ gc_n σ a = 0)
theorem gc_alenO (h : gc_K θ K M) (ha : gc_isO θ σ a) (d : decode (gx_Mc M) pc = .ok (.arraylength, 1)) (kk : gc_G θ K M Post (pc + 1) L (.int (Int32.ofNat (gc_n σ a)) :: st) σ bc bs) : gc_G θ K M Post pc L (.ref a :: st) σ bc bs := by
  rcases ha with ha | ⟨rfl, h0⟩
  · exact gc_alen (k := 20) (t := 6) (by decide) rfl h ha d kk
  · intro H locs ls c n hL hw hS e1 e2
    rw [h0] at kk
    have hz := h.2.2.2.2.2.2.2.1
    have hth := hz.2.2.1.2.1
    have hat : va_P (gc_D θ) gc_cl [(gc_aD θ, .inl (gc_c θ 20, 0, .inr (.inr (.inr (.inr (fun _ => none))))))] H := fun q x hq => by
      match q, hq with
      | 0, hq =>
        cases hq
        show H[gc_aD θ]? = _
        rw [hw.2.2.2.2.2 _ (Array.getElem?_eq_some_iff.mp hth).1]
        exact hth
      | q + 1, hq => simp at hq
    exact va_alen h.1 h.2.1 hz.1 hat 0 6 rfl rfl rfl d (kk H locs ls c n hL hw hS e1 e2)
/-- a new array of objects -/
theorem gc_newq {k t i : Nat} {E own : String} (hk : 17 ≤ k) (ht : (gc_tys θ)[t]? = some (gc_c θ k, .object E)) (h : gc_K θ K M) (hc : (gx_My M).cls = own) (q1 : Cond.classLink own i E ∈ lw_all) (q2 : Cond.arrayOver (.object E) ∈ lw_tbl) {v : Int32} (hi : ¬ v < 0) (hm : v.toNatClampNeg ≤ 100000) (d : decode (gx_Mc M) pc = .ok (.anewarray i, 3)) (hbc : 1 ≤ bc) (hbs : v.toNatClampNeg ≤ bs)
    (kk : ∀ q, q ∉ gc_d σ → gc_A θ q → gc_G θ K M Post (pc + 3) L (.ref q :: st) (gc_new σ q k v.toNatClampNeg) (bc - 1) (bs - v.toNatClampNeg)) : gc_G θ K M Post pc L (.int v :: st) σ bc bs := by
  intro H locs ls c n hL hw hS e1 e2
  have hRM := h.2.2.2.2.2.2.2.2.1
  have hz := h.2.2.2.2.2.2.2.1
  have hK := hz.1
  refine va_newq h.1 h.2.1 h.2.2.2.1 (h.2.2.2.2.1 _ (hc ▸ q1)) (hz.2.1 _ q2 rfl) hK hw.1 hw.2.1 hS (gc_new_ok h) hi rfl (by omega) (by rw [hRM]; omega) (by rw [hRM]; omega) d ?_
  intro q cA H1 hK1 hP hD hS
  have hcA : cA = gc_c θ k := gc_one (hK1.2 (gc_tys θ).length (cA, _) (by rw [List.getElem?_append_right (Nat.le_refl _), Nat.sub_self]; rfl)).2 (hK.2 t _ ht).2
  subst hcA
  have hq : q ∉ gc_d σ := va_pl_fresh2 (X := []) hD
  have hAq : gc_A θ q := hD.2 (gc_ws θ σ).length (q, _) (by rw [List.getElem?_append_right (Nat.le_refl _), Nat.sub_self]; rfl)
  refine kk q hq hAq H1 locs ls _ _ hL (gc_to h (gc_push hq ?_) hP hD hS) hS (by omega) (by omega)
  rw [gc_e_ref (k := k) (va_up_self _ _ _) hk]
  show Sum.inl (gc_c θ k, va_up (gc_n σ) q v.toNatClampNeg q, Sum.inr (Sum.inr (Sum.inr (Sum.inr (va_up (gc_Q σ) q (fun _ => none) q))))) = _
  rw [va_up_self, va_up_self]
/-- the finding is caught -/
theorem gc_catchF (h : gc_K θ K M) (hc : (gx_My M).cls = "BranchMender") (q1 : Cond.classLink "BranchMender" 33 "BranchMender$Finding" ∈ lw_all) (q2 : Cond.castable "BranchMender$Finding" "BranchMender$Finding" ∈ lw_tbl) (pre : List ExceptionTableEntry) (y : ExceptionTableEntry) (rest : List ExceptionTableEntry) (hs : tableOf (gx_Mh M) = pre ++ y :: rest) (hp : pre.all (fun z => !covers z pc) = true) (hx : covers y pc = true) (hy : y.catchType = 33) (ha : gc_is σ a 1)
    (k : gc_G θ K M Post y.handlerPc L [.ref a] σ bc bs) : gx_T (gc_O θ) K M Post pc L a σ bc bs := by
  refine gx_catch h pre y rest hs hx (by rw [hy]; decide) (name := "BranchMender$Finding") (C := "BranchMender$Finding") (by rw [hy, hc]; exact q1) (gc_recv h (k := 1) rfl ha (by decide)) (Cond.castable_spec (va_Nw.use (A := gx_a K) rfl (h.2.2.2.2.2.2.2.1.2.1 _ q2 rfl))) (fun c _ z hz => Or.inl ?_) k
  have h1 := List.all_eq_true.mp hp z hz
  cases hcv : covers z pc with
  | false => rfl
  | true => rw [hcv] at h1; exact absurd h1 (by decide)
theorem gc_athrow (h : gc_K θ K M) {r : Option Nat} (e : r = some a) (d : decode (gx_Mc M) pc = .ok (.athrow, 1)) (k : gx_T (gc_O θ) K M Post pc L a σ bc bs) : gc_G θ K M Post pc L (va_rf r :: st) σ bc bs := by
  subst e
  exact gx_athrow h d k
end GCS
