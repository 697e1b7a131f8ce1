/-! put(): rows, specification -/
def tr_pt (t : tr_) (f l : Nat) (r : rw_) : tr_ := (tr_n t + 1, fun k => if k < f then tr_r t k else if k = f then r else if k ≤ l then rw_up (tr_r t (k - 1)) else tr_r t (k - 1))
theorem tr_pt_d {t : tr_} {i f l : Nat} {r : rw_} (hr : rw_d r = tr_d t i + 1) : tr_d (tr_pt t f l r) = dp_d (tr_d t) i f l := by
  funext k
  show rw_d (if k < f then tr_r t k else if k = f then r else if k ≤ l then rw_up (tr_r t (k - 1)) else tr_r t (k - 1)) = dp_d (tr_d t) i f l k
  unfold dp_d
  by_cases c1 : k < f
  · rw [if_pos c1, if_pos c1]
  · rw [if_neg c1, if_neg c1]
    by_cases c2 : k = f
    · rw [if_pos c2, if_pos c2]; exact hr
    · rw [if_neg c2, if_neg c2]
      by_cases c3 : k ≤ l
      · rw [if_pos c3, if_pos c3]; rfl
      · rw [if_neg c3, if_neg c3]
theorem tr_pt_lt {t : tr_} {f l k : Nat} {r : rw_} (h : k < f) : tr_r (tr_pt t f l r) k = tr_r t k := if_pos h
theorem tr_pt_f {t : tr_} {f l : Nat} {r : rw_} : tr_r (tr_pt t f l r) f = r := by
  show (if f < f then tr_r t f else if f = f then r else _) = r
  rw [if_neg (Nat.lt_irrefl _), if_pos rfl]
theorem tr_pt_in {t : tr_} {f l k : Nat} {r : rw_} (h : f ≤ k) (h2 : k < l) : tr_r (tr_pt t f l r) (k + 1) = rw_up (tr_r t k) := by
  show (if k + 1 < f then _ else if k + 1 = f then r else if k + 1 ≤ l then rw_up (tr_r t (k + 1 - 1)) else tr_r t (k + 1 - 1)) = _
  rw [if_neg (by omega), if_neg (by omega), if_pos (by omega), Nat.add_sub_cancel]
theorem tr_pt_ge {t : tr_} {f l k : Nat} {r : rw_} (h : f ≤ k) (h2 : l ≤ k) : tr_r (tr_pt t f l r) (k + 1) = tr_r t k := by
  show (if k + 1 < f then _ else if k + 1 = f then r else if k + 1 ≤ l then rw_up (tr_r t (k + 1 - 1)) else tr_r t (k + 1 - 1)) = _
  rw [if_neg (by omega), if_neg (by omega), if_neg (by omega), Nat.add_sub_cancel]
/-- a range of children -/
def sp_rg (fr m : Int32) (n : Nat) (K : Nat → Nat → Prop) (e : Prop) : Prop := (∀ a b : Nat, a + b ≤ n → fr = nI a → m = nI b → K a b) ∧ ((∀ a b : Nat, a + b ≤ n → ¬ (fr = nI a ∧ m = nI b)) → e)
/-- what put() makes of a tree -/
def pt_t (z : zz) (q i a b kd : Nat) : tr_ := tr_pt (zt z q) (dl_at (tr_d (zt z q)) (tr_n (zt z q)) i a) (dl_at (tr_d (zt z q)) (tr_n (zt z q)) i (a + b)) (zN z, kd, tr_d (zt z q) i + 1, zp z, [])
def pt_in (kd : Int32) (z : zz) (q i : Nat) : Prop := (∃ k : Nat, k ≤ 2 ∧ kd = nI k) ∧ tr_k (zt z q) i ≠ 3 ∧ lb_ok (zp z)
def sp_put (p x kd fr m : Int32) (z : zz) (Q : zP) : Prop := sp_tree p z Q (fun q => sp_named (zt z q) x (fun i => (¬ pt_in kd z q i → sp_f (z_p z []) Q 3) ∧ (pt_in kd z q i → sp_rg fr m (dl_cl (tr_d (zt z q)) (tr_n (zt z q)) i).length (fun a b =>
  (¬ tr_sm (pt_t z q i a b kd.toNatClampNeg) → sp_f (z_p z []) Q 5) ∧ (tr_sm (pt_t z q i a b kd.toNatClampNeg) → (tr_tw (pt_t z q i a b kd.toNatClampNeg) → sp_f (z_p z []) Q 4) ∧ (¬ tr_tw (pt_t z q i a b kd.toNatClampNeg) → Q (nI (zN z)) (z_N (z_t (z_p z []) q (pt_t z q i a b kd.toNatClampNeg)) (zN z + 1))))) (sp_f (z_p z []) Q 1))) (sp_f z Q 6))
theorem tr_pt_inv {t : tr_} {f l k : Nat} {r : rw_} (hk : k < tr_n t + 1) : k = f ∨ ∃ j, j < tr_n t + 1 ∧ k = dp_sh f j ∧ (k < f → j = k) ∧ (f < k → j + 1 = k) := by
  by_cases c : k = f
  · exact Or.inl c
  · refine Or.inr ?_
    by_cases c2 : k < f
    · exact ⟨k, hk, by unfold dp_sh; rw [if_pos c2], fun _ => rfl, fun y => by omega⟩
    · exact ⟨k - 1, by omega, by unfold dp_sh; rw [if_neg (by omega)]; omega, fun y => by omega, fun _ => by omega⟩
