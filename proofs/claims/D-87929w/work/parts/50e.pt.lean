/-! put(): one answer -/
section TOT
variable {c : Nat} {z : zz}
theorem tot_rg {fr m : Int32} {n : Nat} {K : Nat → Nat → zP → Prop} {E : zP → Prop} (hn : n < 2 ^ 31) (h1 : ∀ a b, a + b ≤ n → sp_tot c (K a b)) (h2 : sp_tot c E) : sp_tot c (fun Q => sp_rg fr m n (fun a b => K a b Q) (E Q)) := by
  by_cases w : ∃ a b : Nat, a + b ≤ n ∧ fr = nI a ∧ m = nI b
  · obtain ⟨a, b, hab, rfl, rfl⟩ := w
    obtain ⟨r, z', k1, k2⟩ := h1 a b hab
    refine ⟨r, z', k1, fun Q q => ⟨fun a' b' hab' e1 e2 => ?_, fun y => absurd ⟨rfl, rfl⟩ (y a b hab)⟩⟩
    rw [nI_eq (by omega) (by omega)] at e1 e2
    rw [← e1, ← e2]; exact k2 Q q
  · obtain ⟨r, z', k1, k2⟩ := h2
    exact ⟨r, z', k1, fun Q q => ⟨fun a b hab e1 e2 => absurd ⟨a, b, hab, e1, e2⟩ w, fun _ => k2 Q q⟩⟩
theorem zok.nx (h : zok c z) {q : Nat} {t : tr_} (hq : q < 8) (ht : tr_n t = 0 ∨ tr_ok (zN z + 1) t) : zok (c + 1) (z_N (z_t z q t) (zN z + 1)) := by
  refine ⟨fun p hp => ?_, ?_, h.2.2⟩
  · show tr_n (if p = q then t else z.1 p) = 0 ∨ tr_ok (zN z + 1) (if p = q then t else z.1 p)
    by_cases e : p = q
    · rw [if_pos e]; exact ht
    · rw [if_neg e]
      exact (h.1 p hp).imp id (fun y => y.mono (by omega))
  · show zN z + 1 ≤ 30 * (c + 1)
    have := h.2.1
    omega
theorem tot_put (h : zok c z) (hc : c ≤ 64) (p x kd fr m : Int32) : sp_tot c (sp_put p x kd fr m z) := by
  have hN := h.N hc
  refine tot_tree (K := fun q Q => sp_named (zt z q) x (fun i => (¬ pt_in kd z q i → sp_f (z_p z []) Q 3) ∧ (pt_in kd z q i → sp_rg fr m (dl_cl (tr_d (zt z q)) (tr_n (zt z q)) i).length (fun a b =>
  (¬ tr_sm (pt_t z q i a b kd.toNatClampNeg) → sp_f (z_p z []) Q 5) ∧ (tr_sm (pt_t z q i a b kd.toNatClampNeg) → (tr_tw (pt_t z q i a b kd.toNatClampNeg) → sp_f (z_p z []) Q 4) ∧ (¬ tr_tw (pt_t z q i a b kd.toNatClampNeg) → Q (nI (zN z)) (z_N (z_t (z_p z []) q (pt_t z q i a b kd.toNatClampNeg)) (zN z + 1))))) (sp_f (z_p z []) Q 1))) (sp_f z Q 6)) h (fun q hq n0 => ?_)
  have ho := h.t hq n0
  refine tot_named (K := fun i Q => (¬ pt_in kd z q i → sp_f (z_p z []) Q 3) ∧ (pt_in kd z q i → sp_rg fr m (dl_cl (tr_d (zt z q)) (tr_n (zt z q)) i).length (fun a b =>
  (¬ tr_sm (pt_t z q i a b kd.toNatClampNeg) → sp_f (z_p z []) Q 5) ∧ (tr_sm (pt_t z q i a b kd.toNatClampNeg) → (tr_tw (pt_t z q i a b kd.toNatClampNeg) → sp_f (z_p z []) Q 4) ∧ (¬ tr_tw (pt_t z q i a b kd.toNatClampNeg) → Q (nI (zN z)) (z_N (z_t (z_p z []) q (pt_t z q i a b kd.toNatClampNeg)) (zN z + 1))))) (sp_f (z_p z []) Q 1))) ho (by omega) (fun i hi => ?_) (tot_f h 6)
  have hlen := dl_len_lt ho.1 hi
  have hen := (dl_en_spec (d := tr_d (zt z q)) hi).2.1
  have h30 := ho.2.1
  refine tot_ifn (fun _ => tot_f h.p0 3) (fun hin => ?_)
  obtain ⟨⟨k, k1, rfl⟩, k2, k3⟩ := hin
  rw [nI_clamp (by omega)]
  refine tot_rg (K := fun a b Q => (¬ tr_sm (pt_t z q i a b k) → sp_f (z_p z []) Q 5) ∧ (tr_sm (pt_t z q i a b k) → (tr_tw (pt_t z q i a b k) → sp_f (z_p z []) Q 4) ∧ (¬ tr_tw (pt_t z q i a b k) → Q (nI (zN z)) (z_N (z_t (z_p z []) q (pt_t z q i a b k)) (zN z + 1))))) (by omega) (fun a b hab => ?_) (tot_f h.p0 1)
  exact tot_ifn (fun _ => tot_f h.p0 5) (fun hsm => tot_if (fun _ => tot_f h.p0 4) (fun htw => tot_1 (h.p0.nx hq (Or.inr (ho.pt hi hab k1 k2 k3 hsm htw)))))
end TOT
