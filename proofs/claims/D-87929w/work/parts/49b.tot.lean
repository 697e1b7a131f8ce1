/-! relabel, retext: one answer, and a tree that is in order -/
theorem tr_sl_a (t : tr_) (i : Nat) (a : List Nat) (k : Nat) : tr_a (tr_sl t i a) k = tr_a t k := by
  show rw_a (if k = i then (tr_a t i, tr_k t i, tr_d t i, a, tr_t t i) else tr_r t k) = rw_a (tr_r t k)
  by_cases c : k = i
  · rw [if_pos c, c]
  · rw [if_neg c]
theorem tr_sl_k (t : tr_) (i : Nat) (a : List Nat) (k : Nat) : tr_k (tr_sl t i a) k = tr_k t k := by
  show rw_k (if k = i then (tr_a t i, tr_k t i, tr_d t i, a, tr_t t i) else tr_r t k) = rw_k (tr_r t k)
  by_cases c : k = i
  · rw [if_pos c, c]
  · rw [if_neg c]
theorem tr_st_a (t : tr_) (i : Nat) (a : List Nat) (k : Nat) : tr_a (tr_st t i a) k = tr_a t k := by
  show rw_a (if k = i then (tr_a t i, tr_k t i, tr_d t i, tr_l t i, a) else tr_r t k) = rw_a (tr_r t k)
  by_cases c : k = i
  · rw [if_pos c, c]
  · rw [if_neg c]
theorem tr_st_k (t : tr_) (i : Nat) (a : List Nat) (k : Nat) : tr_k (tr_st t i a) k = tr_k t k := by
  show rw_k (if k = i then (tr_a t i, tr_k t i, tr_d t i, tr_l t i, a) else tr_r t k) = rw_k (tr_r t k)
  by_cases c : k = i
  · rw [if_pos c, c]
  · rw [if_neg c]
theorem tr_st_l (t : tr_) (i : Nat) (a : List Nat) (k : Nat) : tr_l (tr_st t i a) k = tr_l t k := by
  show rw_l (if k = i then (tr_a t i, tr_k t i, tr_d t i, tr_l t i, a) else tr_r t k) = rw_l (tr_r t k)
  by_cases c : k = i
  · rw [if_pos c, c]
  · rw [if_neg c]
theorem tr_ok.sl {N : Nat} {t : tr_} {i : Nat} {a : List Nat} (h : tr_ok N t) (hi : i < tr_n t) (ha : lb_ok a) (hb : ¬ rl_bad t i a) : tr_ok N (tr_sl t i a) := by
  obtain ⟨h1, h2, h3, h4, h5, h6⟩ := h
  have en : tr_n (tr_sl t i a) = tr_n t := rfl
  unfold tr_ok
  rw [tr_sl_d, en]
  refine ⟨h1, h2, fun k hk => ?_, fun j k hj hk e => h4 j k hj hk (by rw [tr_sl_a, tr_sl_a] at e; exact e), fun k hk e => h5 k hk (by rw [tr_sl_k] at e; exact e), ?_⟩
  · have hr := h3 k hk
    show rw_in N (if k = i then (tr_a t i, tr_k t i, tr_d t i, a, tr_t t i) else tr_r t k)
    by_cases c : k = i
    · rw [if_pos c]
      subst c
      exact ⟨hr.1, hr.2.1, hr.2.2.1, ha.1, ha.2.1, ha.2.2, hr.2.2.2.2.2.2⟩
    · rw [if_neg c]; exact hr
  · rintro ⟨m, m1, m2, m3⟩
    have m1 : m < tr_n t := m1
    rw [tr_sl_k] at m2
    have m4 := m3
    obtain ⟨j, k, j1, j2, j3⟩ := m3
    rw [tr_sl_d, en] at j2 j3
    have key : ∀ u, u < (dl_cl (tr_d t) (tr_n t) m).length → dl_at (tr_d t) (tr_n t) m u = i → False := fun u hu e => by
      have hm := (dl_cl_pa h1 m1).mp (dl_at_mem hu)
      rw [e] at hm
      refine hb ⟨hm.1, by rw [hm.2.2]; exact m2, by rw [hm.2.2]; exact m4⟩
    rw [tr_sl_l, tr_sl_l, if_neg (fun e => key k j2 e), if_neg (fun e => key j (by omega) e)] at j3
    exact h6 ⟨m, m1, m2, j, k, j1, j2, j3⟩
theorem tr_ok.st {N : Nat} {t : tr_} {i : Nat} {a : List Nat} (h : tr_ok N t) (hi : i < tr_n t) (ha : tx_ok a) : tr_ok N (tr_st t i a) := by
  obtain ⟨h1, h2, h3, h4, h5, h6⟩ := h
  have en : tr_n (tr_st t i a) = tr_n t := rfl
  unfold tr_ok
  rw [tr_st_d, en]
  refine ⟨h1, h2, fun k hk => ?_, fun j k hj hk e => h4 j k hj hk (by rw [tr_st_a, tr_st_a] at e; exact e), fun k hk e => h5 k hk (by rw [tr_st_k] at e; exact e), ?_⟩
  · have hr := h3 k hk
    show rw_in N (if k = i then (tr_a t i, tr_k t i, tr_d t i, tr_l t i, a) else tr_r t k)
    by_cases c : k = i
    · rw [if_pos c]
      subst c
      exact ⟨hr.1, hr.2.1, hr.2.2.1, hr.2.2.2.1, hr.2.2.2.2.1, hr.2.2.2.2.2.1, ha.1, ha.2⟩
    · rw [if_neg c]; exact hr
  · rintro ⟨m, m1, m2, j, k, j1, j2, j3⟩
    rw [tr_st_k] at m2
    rw [tr_st_d, en] at j2 j3
    rw [tr_st_l, tr_st_l] at j3
    exact h6 ⟨m, m1, m2, j, k, j1, j2, j3⟩
section TOT
variable {c : Nat} {z : zz}
theorem zok.p0 (h : zok c z) : zok c (z_p z []) := h.p (Nat.zero_le _) (fun x hx => absurd hx (by simp))
theorem tot_ifn {A : Prop} {S T : zP → Prop} (h1 : ¬ A → sp_tot c S) (h2 : A → sp_tot c T) : sp_tot c (fun Q => (¬ A → S Q) ∧ (A → T Q)) := by
  by_cases a : A
  · obtain ⟨r, z', k1, k2⟩ := h2 a
    exact ⟨r, z', k1, fun Q q => ⟨fun b => absurd a b, fun _ => k2 Q q⟩⟩
  · obtain ⟨r, z', k1, k2⟩ := h1 a
    exact ⟨r, z', k1, fun Q q => ⟨fun _ => k2 Q q, fun b => absurd b a⟩⟩
theorem tot_relabel (h : zok c z) (hc : c ≤ 64) (p x : Int32) : sp_tot c (sp_relabel p x z) := by
  have hN := h.N hc
  refine tot_tree (K := fun q Q => sp_named (zt z q) x (fun i => (¬ lb_ok (zp z) → sp_f (z_p z []) Q 3) ∧ (lb_ok (zp z) → (rl_bad (zt z q) i (zp z) → sp_f (z_p z []) Q 4) ∧ (¬ rl_bad (zt z q) i (zp z) → Q (nI (zp z).length) (z_t (z_p z []) q (tr_sl (zt z q) i (zp z)))))) (sp_f z Q 6)) h (fun q hq n0 => ?_)
  have ho := h.t hq n0
  refine tot_named (K := fun i Q => (¬ lb_ok (zp z) → sp_f (z_p z []) Q 3) ∧ (lb_ok (zp z) → (rl_bad (zt z q) i (zp z) → sp_f (z_p z []) Q 4) ∧ (¬ rl_bad (zt z q) i (zp z) → Q (nI (zp z).length) (z_t (z_p z []) q (tr_sl (zt z q) i (zp z)))))) ho (by omega) (fun i hi => ?_) (tot_f h 6)
  exact tot_ifn (fun _ => tot_f h.p0 3) (fun a => tot_if (fun _ => tot_f h.p0 4) (fun b => tot_1 (h.p0.zt hq (Or.inr (ho.sl hi a b))).up))
theorem tot_retext (h : zok c z) (hc : c ≤ 64) (p x : Int32) : sp_tot c (sp_retext p x z) := by
  have hN := h.N hc
  refine tot_tree (K := fun q Q => sp_named (zt z q) x (fun i => (¬ tx_ok (zp z) → sp_f (z_p z []) Q 3) ∧ (tx_ok (zp z) → Q (nI (zp z).length) (z_t (z_p z []) q (tr_st (zt z q) i (zp z))))) (sp_f z Q 6)) h (fun q hq n0 => ?_)
  have ho := h.t hq n0
  refine tot_named (K := fun i Q => (¬ tx_ok (zp z) → sp_f (z_p z []) Q 3) ∧ (tx_ok (zp z) → Q (nI (zp z).length) (z_t (z_p z []) q (tr_st (zt z q) i (zp z))))) ho (by omega) (fun i hi => ?_) (tot_f h 6)
  exact tot_ifn (fun _ => tot_f h.p0 3) (fun a => tot_1 (h.p0.zt hq (Or.inr (ho.st hi a))).up)
end TOT
