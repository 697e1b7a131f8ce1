/-! relabel() and retext(): specification and model -/
def lb_ok (a : List Nat) : Prop := 0 < a.length ∧ a.length ≤ 6 ∧ ∀ c ∈ a, sg_l c
def tx_ok (a : List Nat) : Prop := a.length ≤ 8 ∧ ∀ c ∈ a, sg_s c
/-- the first of a name -/
def sp_named (t : tr_) (x : Int32) (k : Nat → Prop) (e : Prop) : Prop := (∀ i : Nat, i < tr_n t → nI (tr_a t i) = x → k i) ∧ ((∀ i : Nat, i < tr_n t → ¬ nI (tr_a t i) = x) → e)
def tr_sl (t : tr_) (i : Nat) (a : List Nat) : tr_ := (tr_n t, fun k => if k = i then (tr_a t i, tr_k t i, tr_d t i, a, tr_t t i) else tr_r t k)
def tr_st (t : tr_) (i : Nat) (a : List Nat) : tr_ := (tr_n t, fun k => if k = i then (tr_a t i, tr_k t i, tr_d t i, tr_l t i, a) else tr_r t k)
/-- a label that its parent can't bear -/
def rl_bad (t : tr_) (i : Nat) (a : List Nat) : Prop := 0 < i ∧ tr_k t (dl_pa (tr_d t) i) = 2 ∧ tr_tw1 (tr_sl t i a) (dl_pa (tr_d t) i)
def sp_relabel (p x : Int32) (z : zz) (Q : zP) : Prop := sp_tree p z Q (fun q => sp_named (zt z q) x (fun i => (¬ lb_ok (zp z) → sp_f (z_p z []) Q 3) ∧ (lb_ok (zp z) → (rl_bad (zt z q) i (zp z) → sp_f (z_p z []) Q 4) ∧ (¬ rl_bad (zt z q) i (zp z) → Q (nI (zp z).length) (z_t (z_p z []) q (tr_sl (zt z q) i (zp z)))))) (sp_f z Q 6))
def sp_retext (p x : Int32) (z : zz) (Q : zP) : Prop := sp_tree p z Q (fun q => sp_named (zt z q) x (fun i => (¬ tx_ok (zp z) → sp_f (z_p z []) Q 3) ∧ (tx_ok (zp z) → Q (nI (zp z).length) (z_t (z_p z []) q (tr_st (zt z q) i (zp z))))) (sp_f z Q 6))
/-- what taking the tape into a node of place 8 may change -/
def tk_fr (i lo hi : Nat) (X X' : gm_X) : Prop := (∀ f, X'.1 f = if f = 4 then 0 else X.1 f) ∧ (∀ b, b ≠ 0 → X'.2 b = X.2 b) ∧ ∀ p k w, k < 30 → w < 19 → ¬ (p = 8 ∧ k = i ∧ lo ≤ w ∧ w < hi) → ma_nd X' p k w = ma_nd X p k w
theorem tk_fr.set {i lo hi w : Nat} {X X' : gm_X} {v : Int32} (h : tk_fr i lo hi X X') (hi30 : i < 30) (h1 : lo ≤ w) (h2 : w < hi) (h3 : hi ≤ 19) : tk_fr i lo hi X (gm_pA X' 0 (19 * (30 * 8 + i) + w) v) :=
  ⟨h.1, fun b hb => by rw [ma_pA_ne hb]; exact h.2.1 b hb, fun p k u hk hu hne => by rw [ma_nd_set hi30 (by omega) hk hu, if_neg (fun y => hne ⟨y.1, y.2.1, by omega, by omega⟩)]; exact h.2.2 p k u hk hu hne⟩
theorem ls_all {a : List Nat} {p : Nat → Prop} (h : ∀ u, u < a.length → p (a.getD u 0)) : ∀ c ∈ a, p c := by
  intro c hc
  obtain ⟨u, hu1, hu2⟩ := List.getElem_of_mem hc
  have := h u hu1
  rw [List.getD_eq_getElem?_getD, List.getElem?_eq_getElem hu1] at this
  rw [← hu2]; exact this
section MR
variable {θ : gm_T} {P : Int32 → gm_X → Prop} {X : gm_X} {z : zz} {c : Nat}
theorem km_takes3 {x1 x2 : Int32} (i : Nat) {a : List Nat} (ht : ma_tape X a) (hi : i < 30) (k1 : lb_ok a → ∀ X', tk_fr i 3 10 X X' → ma_ml X' 8 i 3 a → P 1 X') (k0 : ¬ lb_ok a → ∀ X', tk_fr i 3 10 X X' → P 0 X') (h1 : x1 = nI i := by rfl) (h2 : x2 = nI 3 := by rfl) : gx_C (gm_O θ) mX7_takes [.ref (gm_am θ), .int x1, .int x2] X (gm_Pi P) := by
  subst h1 h2
  obtain ⟨t1, t2, t3⟩ := ht
  refine em_takes (fun K h => bm_takes_0 h ?_)
  rintro _ rfl
  have f0 : tk_fr i 3 10 X (gm_pI X 4 0) := ⟨fun f => by rw [ma_pI_at], fun b hb => rfl, fun p k w _ _ _ => rfl⟩
  rw [t1]
  have key : ∀ m j X', j + m = a.length → 0 < a.length → a.length ≤ 6 → (∀ u, u < j → sg_l (a.getD u 0)) → tk_fr i 3 10 X X' → (∀ u, u < j → ma_nd X' 8 i (3 + 1 + u) = nI (a.getD u 0)) → gm_G θ K mX7_takes (gm_Pi P) 40 [(0, .ref (gm_am θ)), (1, .int (nI i)), (2, .int (nI 3)), (3, .int (nI a.length)), (4, .int (nI j))] [] X' := by
    intro m
    induction m with
    | zero =>
      intro j X' hj g0 g1 hu hf hm
      refine bm_takes_40 h (pl_le (fun _ => km_set 8 i 3 ?_) (fun c => by omega))
      refine k1 ⟨g0, g1, ls_all (fun u hu2 => hu u (by omega))⟩ _ (hf.set hi (by omega) (by omega) (by omega)) ⟨?_, fun u hu2 => ?_⟩
      · rw [ma_nd_set hi (by omega) hi (by omega), if_pos ⟨rfl, rfl, rfl⟩]
      · rw [ma_nd_set hi (by omega) hi (by omega), if_neg (by omega)]; exact hm u (by omega)
    | succ m ih =>
      intro j X' hj g0 g1 hu hf hm
      have hv := t3 j (by omega)
      refine bm_takes_40 h (pl_le (fun c => by omega) (fun _ => ⟨fun _ => ⟨vp_in_nI (by omega) (by decide), ?_⟩, fun q => absurd rfl q⟩))
      rw [nI_clamp (by omega), hf.2.1 3 (by decide), hv.1]
      refine km_letterN (a.getD j 0) hv.2 (fun e => ⟨fun q => absurd q (by decide), fun _ => bm_takes_82 h ⟨vp_in_nI (by omega) (by decide), ?_⟩⟩) (fun e => ⟨fun _ => bm_takes_80 h (k0 (fun z => e (z.2.2 _ (ls_getD_mem (by omega)))) X' hf), fun q => absurd rfl q⟩)
      rw [nI_clamp (by omega), hf.2.1 3 (by decide), hv.1]
      refine km_set 8 i (3 + 1 + j) ?_ (h3 := by rw [nI_1, nI_add])
      rw [nI_1]
      refine ih (j + 1) _ (by omega) g0 g1 (fun u hu2 => ?_) (hf.set hi (by omega) (by omega) (by omega)) (fun u hu2 => ?_)
      · by_cases z : u = j
        · rw [z]; exact e
        · exact hu u (by omega)
      · rw [ma_nd_set hi (by omega) hi (by omega)]
        by_cases z : u = j
        · rw [if_pos ⟨rfl, rfl, by omega⟩, z]
        · rw [if_neg (by omega)]; exact hm u (by omega)
  refine ⟨fun _ => bm_takes_23 h (pl_lt (a := 6) (b := a.length) (fun c => bm_takes_35 h (k0 (fun z => by have := z.2.1; omega) _ f0)) (fun g1 => ⟨fun _ => pl_eq (a := a.length) (b := 0) (fun c => bm_takes_35 h (k0 (fun z => by have := z.1; omega) _ f0)) (fun g0 => bm_takes_37 h (key a.length 0 _ (Nat.zero_add _) (by omega) g1 (fun u hu => by omega) f0 (fun u hu => by omega))), fun q => absurd rfl q⟩)), fun q => absurd rfl q⟩
theorem km_takes10 {x1 x2 : Int32} (i : Nat) {a : List Nat} (ht : ma_tape X a) (hi : i < 30) (k1 : tx_ok a → ∀ X', tk_fr i 10 19 X X' → ma_ml X' 8 i 10 a → P 1 X') (k0 : ¬ tx_ok a → ∀ X', tk_fr i 10 19 X X' → P 0 X') (h1 : x1 = nI i := by rfl) (h2 : x2 = nI 10 := by rfl) : gx_C (gm_O θ) mX7_takes [.ref (gm_am θ), .int x1, .int x2] X (gm_Pi P) := by
  subst h1 h2
  obtain ⟨t1, t2, t3⟩ := ht
  refine em_takes (fun K h => bm_takes_0 h ?_)
  rintro _ rfl
  have f0 : tk_fr i 10 19 X (gm_pI X 4 0) := ⟨fun f => by rw [ma_pI_at], fun b hb => rfl, fun p k w _ _ _ => rfl⟩
  rw [t1]
  have key : ∀ m j X', j + m = a.length → a.length ≤ 8 → (∀ u, u < j → sg_s (a.getD u 0)) → tk_fr i 10 19 X X' → (∀ u, u < j → ma_nd X' 8 i (10 + 1 + u) = nI (a.getD u 0)) → gm_G θ K mX7_takes (gm_Pi P) 40 [(0, .ref (gm_am θ)), (1, .int (nI i)), (2, .int (nI 10)), (3, .int (nI a.length)), (4, .int (nI j))] [] X' := by
    intro m
    induction m with
    | zero =>
      intro j X' hj g1 hu hf hm
      refine bm_takes_40 h (pl_le (fun _ => km_set 8 i 10 ?_) (fun c => by omega))
      refine k1 ⟨g1, ls_all (fun u hu2 => hu u (by omega))⟩ _ (hf.set hi (by omega) (by omega) (by omega)) ⟨?_, fun u hu2 => ?_⟩
      · rw [ma_nd_set hi (by omega) hi (by omega), if_pos ⟨rfl, rfl, rfl⟩]
      · rw [ma_nd_set hi (by omega) hi (by omega), if_neg (by omega)]; exact hm u (by omega)
    | succ m ih =>
      intro j X' hj g1 hu hf hm
      have hv := t3 j (by omega)
      refine bm_takes_40 h (pl_le (fun c => by omega) (fun _ => ⟨fun q => absurd q (by decide), fun _ => ⟨vp_in_nI (by omega) (by decide), ?_⟩⟩))
      rw [nI_clamp (by omega), hf.2.1 3 (by decide), hv.1]
      refine km_signN (a.getD j 0) hv.2 (fun e => ⟨fun q => absurd q (by decide), fun _ => bm_takes_82 h ⟨vp_in_nI (by omega) (by decide), ?_⟩⟩) (fun e => ⟨fun _ => bm_takes_80 h (k0 (fun z => e (z.2 _ (ls_getD_mem (by omega)))) X' hf), fun q => absurd rfl q⟩)
      rw [nI_clamp (by omega), hf.2.1 3 (by decide), hv.1]
      refine km_set 8 i (10 + 1 + j) ?_ (h3 := by rw [nI_1, nI_add])
      rw [nI_1]
      refine ih (j + 1) _ (by omega) g1 (fun u hu2 => ?_) (hf.set hi (by omega) (by omega) (by omega)) (fun u hu2 => ?_)
      · by_cases z : u = j
        · rw [z]; exact e
        · exact hu u (by omega)
      · rw [ma_nd_set hi (by omega) hi (by omega)]
        by_cases z : u = j
        · rw [if_pos ⟨rfl, rfl, by omega⟩, z]
        · rw [if_neg (by omega)]; exact hm u (by omega)
  refine ⟨fun q => absurd q (by decide), fun _ => bm_takes_23 h (pl_lt (a := 8) (b := a.length) (fun c => bm_takes_35 h (k0 (fun z => by have := z.1; omega) _ f0)) (fun g1 => ⟨fun q => absurd q (by decide), fun _ => bm_takes_37 h (key a.length 0 _ (Nat.zero_add _) g1 (fun u hu => by omega) f0 (fun u hu => by omega))⟩))⟩
end MR
