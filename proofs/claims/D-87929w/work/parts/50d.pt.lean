/-! put(): one answer, and a tree that is in order -/
theorem tr_pt_at {t : tr_} {f l j : Nat} {r : rw_} (hfl : f ≤ l) : tr_a (tr_pt t f l r) (dp_sh f j) = tr_a t j ∧ tr_k (tr_pt t f l r) (dp_sh f j) = tr_k t j ∧ tr_l (tr_pt t f l r) (dp_sh f j) = tr_l t j ∧ tr_t (tr_pt t f l r) (dp_sh f j) = tr_t t j := by
  unfold dp_sh
  by_cases c1 : j < f
  · rw [if_pos c1]
    show rw_a (tr_r (tr_pt t f l r) j) = _ ∧ rw_k (tr_r (tr_pt t f l r) j) = _ ∧ rw_l (tr_r (tr_pt t f l r) j) = _ ∧ rw_t (tr_r (tr_pt t f l r) j) = _
    rw [tr_pt_lt c1]; exact ⟨rfl, rfl, rfl, rfl⟩
  · rw [if_neg c1]
    show rw_a (tr_r (tr_pt t f l r) (j + 1)) = _ ∧ rw_k (tr_r (tr_pt t f l r) (j + 1)) = _ ∧ rw_l (tr_r (tr_pt t f l r) (j + 1)) = _ ∧ rw_t (tr_r (tr_pt t f l r) (j + 1)) = _
    by_cases c2 : j < l
    · rw [tr_pt_in (by omega) c2]; exact ⟨rfl, rfl, rfl, rfl⟩
    · rw [tr_pt_ge (by omega) (by omega)]; exact ⟨rfl, rfl, rfl, rfl⟩
theorem dp_sh_inv {f k n : Nat} (hk : k < n + 1) (hf : f ≤ n) : k = f ∨ ∃ j, j < n ∧ k = dp_sh f j := by
  by_cases c : k = f
  · exact Or.inl c
  · refine Or.inr ?_
    by_cases c2 : k < f
    · exact ⟨k, by omega, by unfold dp_sh; rw [if_pos c2]⟩
    · exact ⟨k - 1, by omega, by unfold dp_sh; rw [if_neg (by omega)]; omega⟩
theorem dp_sh_f {f j : Nat} : dp_sh f j ≠ f := by unfold dp_sh; split <;> omega
theorem tr_ok.pt {N : Nat} {t : tr_} {i a b kd : Nat} {lab : List Nat} (h : tr_ok N t) (hi : i < tr_n t) (hab : a + b ≤ (dl_cl (tr_d t) (tr_n t) i).length) (hk : kd ≤ 2) (hki : tr_k t i ≠ 3) (hl : lb_ok lab)
    (hsm : tr_sm (tr_pt t (dl_at (tr_d t) (tr_n t) i a) (dl_at (tr_d t) (tr_n t) i (a + b)) (N, kd, tr_d t i + 1, lab, []))) (htw : ¬ tr_tw (tr_pt t (dl_at (tr_d t) (tr_n t) i a) (dl_at (tr_d t) (tr_n t) i (a + b)) (N, kd, tr_d t i + 1, lab, []))) :
    tr_ok (N + 1) (tr_pt t (dl_at (tr_d t) (tr_n t) i a) (dl_at (tr_d t) (tr_n t) i (a + b)) (N, kd, tr_d t i + 1, lab, [])) := by
  obtain ⟨h1, h2, h3, h4, h5, h6⟩ := h
  have hf := dl_bd_at h1 hi a
  have hl' := dl_bd_at h1 hi (a + b)
  have hfl : dl_at (tr_d t) (tr_n t) i a ≤ dl_at (tr_d t) (tr_n t) i (a + b) := by
    by_cases c : b = 0
    · rw [c]; exact Nat.le_refl _
    · exact Nat.le_of_lt (dl_at_lt2 h1 hi (a + b) (by omega) hab)
  have hen := (dl_en_spec (d := tr_d t) hi).2.1
  have hfn : dl_at (tr_d t) (tr_n t) i a ≤ tr_n t := by have := hf.2.1; omega
  generalize dl_at (tr_d t) (tr_n t) i a = f at *
  generalize dl_at (tr_d t) (tr_n t) i (a + b) = l at *
  have hd : tr_d (tr_pt t f l (N, kd, tr_d t i + 1, lab, [])) = dp_d (tr_d t) i f l := tr_pt_d rfl
  have hn : tr_n (tr_pt t f l (N, kd, tr_d t i + 1, lab, [])) = tr_n t + 1 := rfl
  have ef : tr_r (tr_pt t f l (N, kd, tr_d t i + 1, lab, [])) f = (N, kd, tr_d t i + 1, lab, []) := tr_pt_f
  have eaf : tr_a (tr_pt t f l (N, kd, tr_d t i + 1, lab, [])) f = N := by show rw_a (tr_r _ f) = N; rw [ef]
  refine ⟨by rw [hd, hn]; exact dp_ok h1 hi hf hl' hfl, hsm.1, fun k hk' => ?_, fun j k hj hk' e => ?_, fun k hk' e => ?_, htw⟩
  · have hdk := hsm.2 k hk'
    rw [hn] at hk'
    rcases dp_sh_inv hk' hfn with c | ⟨j, hj, c⟩
    · subst c
      have hdk : rw_d (tr_r (tr_pt t k l (N, kd, tr_d t i + 1, lab, [])) k) < 12 := hdk
      rw [ef] at hdk ⊢
      exact ⟨Nat.lt_succ_self N, show kd ≤ 3 by omega, hdk, hl.1, hl.2.1, hl.2.2, Nat.zero_le _, fun c (hc : c ∈ ([] : List Nat)) => absurd hc List.not_mem_nil⟩
    · have hr := h3 j hj
      obtain ⟨q1, q2, q3, q4⟩ := tr_pt_at (t := t) (j := j) (r := (N, kd, tr_d t i + 1, lab, [])) hfl
      rw [c] at hdk ⊢
      have hdk : rw_d (tr_r (tr_pt t f l (N, kd, tr_d t i + 1, lab, [])) (dp_sh f j)) < 12 := hdk
      have q1 : rw_a (tr_r (tr_pt t f l (N, kd, tr_d t i + 1, lab, [])) (dp_sh f j)) = rw_a (tr_r t j) := q1
      have q2 : rw_k (tr_r (tr_pt t f l (N, kd, tr_d t i + 1, lab, [])) (dp_sh f j)) = rw_k (tr_r t j) := q2
      have q3 : rw_l (tr_r (tr_pt t f l (N, kd, tr_d t i + 1, lab, [])) (dp_sh f j)) = rw_l (tr_r t j) := q3
      have q4 : rw_t (tr_r (tr_pt t f l (N, kd, tr_d t i + 1, lab, [])) (dp_sh f j)) = rw_t (tr_r t j) := q4
      unfold rw_in
      rw [q1, q2, q3, q4]
      exact ⟨by have := hr.1; omega, hr.2.1, hdk, hr.2.2.2⟩
  · rw [hn] at hj hk'
    have old : ∀ j, j < tr_n t → tr_a t j < N := fun j hj => (h3 j hj).1
    rcases dp_sh_inv hj hfn with c | ⟨j', hj', c⟩
    · rcases dp_sh_inv hk' hfn with c2 | ⟨k', hk2, c2⟩
      · omega
      · rw [c, c2, eaf, (tr_pt_at hfl).1] at e
        have := old k' hk2
        omega
    · rcases dp_sh_inv hk' hfn with c2 | ⟨k', hk2, c2⟩
      · rw [c, c2, eaf, (tr_pt_at hfl).1] at e
        have := old j' hj'
        omega
      · rw [c, c2, (tr_pt_at hfl).1, (tr_pt_at hfl).1] at e
        rw [c, c2, h4 j' k' hj' hk2 e]
  · rw [hn] at hk'
    rw [hd, hn]
    rcases dp_sh_inv hk' hfn with c | ⟨j, hj, c⟩
    · rw [c] at e
      have e : rw_k (tr_r (tr_pt t f l (N, kd, tr_d t i + 1, lab, [])) f) = 3 := e
      rw [ef] at e
      have e : kd = 3 := e
      omega
    · rw [c, (tr_pt_at hfl).2.1] at e
      have hji : j ≠ i := fun y => hki (y ▸ e)
      have en := h5 j hj e
      rw [c]
      unfold dp_sh
      by_cases c1 : j < f
      · rw [if_pos c1, dp_en_lo h1 hi hf hl' hfl c1 (by omega)]; exact en
      · rw [if_neg c1, dp_en_hi h1 hi hf hl' hfl (by omega) hj, en]
