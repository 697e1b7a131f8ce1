/-! take(): rows, specification -/
def tr_tk (t : tr_) (i : Nat) : tr_ := (tr_n t - 1, fun k => if k < i then tr_r t k else if k + 1 < dl_en (tr_d t) (tr_n t) i then rw_dn 1 (tr_r t (k + 1)) else tr_r t (k + 1))
theorem tr_tk_d {t : tr_} {i : Nat} : tr_d (tr_tk t i) = dt_d (tr_d t) (tr_n t) i := by
  funext k
  show rw_d (if k < i then tr_r t k else if k + 1 < dl_en (tr_d t) (tr_n t) i then rw_dn 1 (tr_r t (k + 1)) else tr_r t (k + 1)) = dt_d (tr_d t) (tr_n t) i k
  unfold dt_d
  by_cases c1 : k < i
  · rw [if_pos c1, if_pos c1]
  · rw [if_neg c1, if_neg c1]
    by_cases c2 : k + 1 < dl_en (tr_d t) (tr_n t) i
    · rw [if_pos c2, if_pos c2]; rfl
    · rw [if_neg c2, if_neg c2]
theorem tr_tk_lt {t : tr_} {i k : Nat} (h : k < i) : tr_r (tr_tk t i) k = tr_r t k := if_pos h
theorem tr_tk_in {t : tr_} {i k : Nat} (h : i < k) (h2 : k < dl_en (tr_d t) (tr_n t) i) : tr_r (tr_tk t i) (k - 1) = rw_dn 1 (tr_r t k) := by
  show (if k - 1 < i then _ else if k - 1 + 1 < dl_en (tr_d t) (tr_n t) i then rw_dn 1 (tr_r t (k - 1 + 1)) else tr_r t (k - 1 + 1)) = _
  rw [if_neg (by omega), if_pos (by omega), show k - 1 + 1 = k by omega]
theorem tr_tk_ge {t : tr_} {i k : Nat} (h : i < k) (h2 : dl_en (tr_d t) (tr_n t) i ≤ k) : tr_r (tr_tk t i) (k - 1) = tr_r t k := by
  show (if k - 1 < i then _ else if k - 1 + 1 < dl_en (tr_d t) (tr_n t) i then rw_dn 1 (tr_r t (k - 1 + 1)) else tr_r t (k - 1 + 1)) = _
  rw [if_neg (by omega), if_neg (by omega), show k - 1 + 1 = k by omega]
def sp_take (p x : Int32) (z : zz) (Q : zP) : Prop := sp_tree p z Q (fun q => sp_named (zt z q) x (fun i => (i = 0 → sp_f z Q 7) ∧ (¬ i = 0 → (tr_tw (tr_tk (zt z q) i) → sp_f z Q 4) ∧ (¬ tr_tw (tr_tk (zt z q) i) → Q (nI (dl_cl (tr_d (zt z q)) (tr_n (zt z q)) i).length) (z_t z q (tr_tk (zt z q) i))))) (sp_f z Q 6))
theorem tr_tk_at {t : tr_} {i j : Nat} (hj : j ≠ i) : tr_a (tr_tk t i) (dt_sh i j) = tr_a t j ∧ tr_k (tr_tk t i) (dt_sh i j) = tr_k t j ∧ tr_l (tr_tk t i) (dt_sh i j) = tr_l t j ∧ tr_t (tr_tk t i) (dt_sh i j) = tr_t t j ∧ tr_d (tr_tk t i) (dt_sh i j) ≤ tr_d t j := by
  unfold dt_sh
  by_cases c1 : j < i
  · rw [if_pos c1]
    show rw_a (tr_r (tr_tk t i) j) = _ ∧ rw_k (tr_r (tr_tk t i) j) = _ ∧ rw_l (tr_r (tr_tk t i) j) = _ ∧ rw_t (tr_r (tr_tk t i) j) = _ ∧ rw_d (tr_r (tr_tk t i) j) ≤ _
    rw [tr_tk_lt c1]; exact ⟨rfl, rfl, rfl, rfl, Nat.le_refl _⟩
  · rw [if_neg c1]
    show rw_a (tr_r (tr_tk t i) (j - 1)) = _ ∧ rw_k (tr_r (tr_tk t i) (j - 1)) = _ ∧ rw_l (tr_r (tr_tk t i) (j - 1)) = _ ∧ rw_t (tr_r (tr_tk t i) (j - 1)) = _ ∧ rw_d (tr_r (tr_tk t i) (j - 1)) ≤ _
    by_cases c2 : j < dl_en (tr_d t) (tr_n t) i
    · rw [tr_tk_in (by omega) c2]; exact ⟨rfl, rfl, rfl, rfl, Nat.sub_le _ _⟩
    · rw [tr_tk_ge (by omega) (by omega)]; exact ⟨rfl, rfl, rfl, rfl, Nat.le_refl _⟩
theorem dt_sh_inv {i k n : Nat} (hk : k < n - 1) : ∃ j, j < n ∧ j ≠ i ∧ k = dt_sh i j := by
  by_cases c : k < i
  · exact ⟨k, by omega, by omega, by unfold dt_sh; rw [if_pos c]⟩
  · exact ⟨k + 1, by omega, by omega, by unfold dt_sh; rw [if_neg (by omega)]; omega⟩
theorem tr_ok.tk {N : Nat} {t : tr_} {i : Nat} (h : tr_ok N t) (h0 : 0 < i) (hi : i < tr_n t) (htw : ¬ tr_tw (tr_tk t i)) : tr_ok N (tr_tk t i) := by
  obtain ⟨h1, h2, h3, h4, h5, h6⟩ := h
  have hn : tr_n (tr_tk t i) = tr_n t - 1 := rfl
  refine ⟨by rw [tr_tk_d, hn]; exact dt_ok h1 h0 hi, by rw [hn]; omega, fun k hk => ?_, fun j k hj hk e => ?_, fun k hk e => ?_, htw⟩
  · rw [hn] at hk
    obtain ⟨j, hj, hji, rfl⟩ := dt_sh_inv (i := i) hk
    have hr := h3 j hj
    obtain ⟨q1, q2, q3, q4, q5⟩ := tr_tk_at (t := t) hji
    have q1 : rw_a (tr_r (tr_tk t i) (dt_sh i j)) = rw_a (tr_r t j) := q1
    have q2 : rw_k (tr_r (tr_tk t i) (dt_sh i j)) = rw_k (tr_r t j) := q2
    have q3 : rw_l (tr_r (tr_tk t i) (dt_sh i j)) = rw_l (tr_r t j) := q3
    have q4 : rw_t (tr_r (tr_tk t i) (dt_sh i j)) = rw_t (tr_r t j) := q4
    have q5 : rw_d (tr_r (tr_tk t i) (dt_sh i j)) ≤ rw_d (tr_r t j) := q5
    unfold rw_in
    rw [q1, q2, q3, q4]
    exact ⟨hr.1, hr.2.1, by have := hr.2.2.1; omega, hr.2.2.2⟩
  · rw [hn] at hj hk
    obtain ⟨j', hj', hji, rfl⟩ := dt_sh_inv (i := i) hj
    obtain ⟨k', hk', hki, rfl⟩ := dt_sh_inv (i := i) hk
    rw [(tr_tk_at hji).1, (tr_tk_at hki).1] at e
    rw [h4 j' k' hj' hk' e]
  · rw [hn] at hk
    obtain ⟨j, hj, hji, rfl⟩ := dt_sh_inv (i := i) hk
    rw [(tr_tk_at hji).2.1] at e
    have en := h5 j hj e
    rw [tr_tk_d, hn]
    unfold dt_sh
    by_cases c : j < i
    · rw [if_pos c, dt_en_lo h1 h0 hi c (by omega)]; exact en
    · rw [if_neg c, dt_en_hi h1 h0 hi (by omega) hj, en]; omega
theorem tot_take {c : Nat} {z : zz} (h : zok c z) (hc : c ≤ 64) (p x : Int32) : sp_tot c (sp_take p x z) := by
  have hN := h.N hc
  refine tot_tree (K := fun q Q => sp_named (zt z q) x (fun i => (i = 0 → sp_f z Q 7) ∧ (¬ i = 0 → (tr_tw (tr_tk (zt z q) i) → sp_f z Q 4) ∧ (¬ tr_tw (tr_tk (zt z q) i) → Q (nI (dl_cl (tr_d (zt z q)) (tr_n (zt z q)) i).length) (z_t z q (tr_tk (zt z q) i))))) (sp_f z Q 6)) h (fun q hq n0 => ?_)
  have ho := h.t hq n0
  refine tot_named (K := fun i Q => (i = 0 → sp_f z Q 7) ∧ (¬ i = 0 → (tr_tw (tr_tk (zt z q) i) → sp_f z Q 4) ∧ (¬ tr_tw (tr_tk (zt z q) i) → Q (nI (dl_cl (tr_d (zt z q)) (tr_n (zt z q)) i).length) (z_t z q (tr_tk (zt z q) i))))) ho (by omega) (fun i hi => ?_) (tot_f h 6)
  exact tot_if (fun _ => tot_f h 7) (fun i0 => tot_if (fun _ => tot_f h 4) (fun b => tot_1 (h.zt hq (Or.inr (ho.tk (by omega) hi b))).up))
