/-! the children of the others where a node was taken out -/
theorem dt_cl_x {d : Nat → Nat} {n i x : Nat} (ho : dl_ok d n) (h0 : 0 < i) (hi : i < n) (hx : x < n) (hxi : x ≠ i) (hxp : dl_pa d i ≠ x) :
    (dl_cl (dt_d d n i) (n - 1) (dt_sh i x)).length = (dl_cl d n x).length ∧ ∀ k, k < (dl_cl d n x).length → dl_at (dt_d d n i) (n - 1) (dt_sh i x) k = dt_sh i (dl_at d n x k) := by
  obtain ⟨e1, e2, e3, e4⟩ := dl_en_spec (d := d) hi
  obtain ⟨x1, x2, x3, x4⟩ := dl_en_spec (d := d) hx
  have nch : ∀ k, k < (dl_cl d n x).length → dl_at d n x k ≠ i := fun k hk e => by
    have := (dl_cl_pa ho hx).mp (dl_at_mem hk)
    rw [e] at this
    exact hxp this.2.2
  have enx : (x < i → dl_en d n x ≤ i → dl_en (dt_d d n i) (n - 1) (dt_sh i x) = dl_en d n x) ∧ (¬ (x < i ∧ dl_en d n x ≤ i) → dl_en (dt_d d n i) (n - 1) (dt_sh i x) = dl_en d n x - 1) := by
    refine ⟨fun q1 q2 => ?_, fun q => ?_⟩
    · unfold dt_sh
      rw [if_pos q1]; exact dt_en_lo ho h0 hi q1 q2
    · unfold dt_sh
      by_cases c : x < i
      · rw [if_pos c]; exact dt_en_anc ho h0 hi c (by omega)
      · rw [if_neg c]; exact dt_en_hi ho h0 hi (by omega) hx
  have main := dl_chainF (m := (dl_cl d n x).length) (F := fun k => if k < (dl_cl d n x).length then dt_sh i (dl_at d n x k) else dl_en (dt_d d n i) (n - 1) (dt_sh i x)) (dt_ok ho h0 hi) (i := dt_sh i x) (by unfold dt_sh; split <;> omega) ?_ (fun k hk => ?_) ?_
  · exact ⟨main.1, fun k hk => by rw [main.2 k (by omega), if_pos hk]⟩
  · show (if 0 < (dl_cl d n x).length then dt_sh i (dl_at d n x 0) else dl_en (dt_d d n i) (n - 1) (dt_sh i x)) = dt_sh i x + 1
    by_cases c : 0 < (dl_cl d n x).length
    · have hne := nch 0 c
      rw [if_pos c]
      rw [dl_at_0 ho hx] at hne ⊢
      unfold dt_sh
      by_cases c2 : x < i
      · rw [if_pos c2, if_pos (by omega)]
      · rw [if_neg c2, if_neg (by omega)]; omega
    · rw [if_neg c]
      have hen : dl_en d n x = x + 1 := by
        have h1 := dl_at_len (d := d) (n := n) (i := x) (k := 0) (by omega)
        rw [dl_at_0 ho hx] at h1
        exact h1.symm
      by_cases c2 : x < i ∧ dl_en d n x ≤ i
      · rw [enx.1 c2.1 c2.2]
        unfold dt_sh
        rw [if_pos c2.1]; exact hen
      · rw [enx.2 c2]
        unfold dt_sh
        rw [if_neg (by omega)]; omega
  · obtain ⟨q1, q2, q3⟩ := dl_at_in ho hx hk
    have hs := dl_at_s ho hx hk
    have hne := nch k hk
    have hne2 : k + 1 < (dl_cl d n x).length → dl_en d n (dl_at d n x k) ≠ i := fun z => by rw [← hs]; exact nch (k + 1) z
    obtain ⟨y1, y2, y3, y4⟩ := dl_en_spec (d := d) (n := n) (i := dl_at d n x k) (by omega)
    have hle := dl_en_in (d := d) hx q1 q2
    show (if k < (dl_cl d n x).length then dt_sh i (dl_at d n x k) else _) < _ ∧ dl_en (dt_d d n i) (n - 1) (if k < (dl_cl d n x).length then dt_sh i (dl_at d n x k) else _) = if k + 1 < (dl_cl d n x).length then dt_sh i (dl_at d n x (k + 1)) else dl_en (dt_d d n i) (n - 1) (dt_sh i x)
    rw [if_pos hk]
    have last : ¬ k + 1 < (dl_cl d n x).length → dl_en d n (dl_at d n x k) = dl_en d n x := fun z => by rw [← hs]; exact dl_at_len (by omega)
    rw [hs]
    generalize dl_at d n x k = y at *
    refine ⟨?_, ?_⟩
    · by_cases c2 : x < i ∧ dl_en d n x ≤ i
      · rw [enx.1 c2.1 c2.2]
        unfold dt_sh
        rw [if_pos (by omega)]; exact q2
      · rw [enx.2 c2]
        unfold dt_sh
        by_cases c3 : y < i
        · rw [if_pos c3]; omega
        · rw [if_neg c3]; omega
    · by_cases cy : y < i
      · have esh : dt_sh i y = y := if_pos cy
        rw [esh]
        by_cases an : i < dl_en d n y
        · rw [dt_en_anc ho h0 hi cy an]
          by_cases cm : k + 1 < (dl_cl d n x).length
          · rw [if_pos cm]
            unfold dt_sh
            rw [if_neg (by omega)]
          · rw [if_neg cm, enx.2 (by omega), last cm]
        · rw [dt_en_lo ho h0 hi cy (by omega)]
          by_cases cm : k + 1 < (dl_cl d n x).length
          · rw [if_pos cm]
            have := hne2 cm
            unfold dt_sh
            rw [if_pos (by omega)]
          · have hl := last cm
            rw [if_neg cm, enx.1 (by omega) (by omega), hl]
      · have esh : dt_sh i y = y - 1 := if_neg cy
        rw [esh, dt_en_hi ho h0 hi (by omega) (by omega)]
        by_cases cm : k + 1 < (dl_cl d n x).length
        · rw [if_pos cm]
          unfold dt_sh
          rw [if_neg (by omega)]
        · rw [if_neg cm, enx.2 (by omega), last cm]
  · show (if (dl_cl d n x).length < (dl_cl d n x).length then _ else dl_en (dt_d d n i) (n - 1) (dt_sh i x)) = _
    rw [if_neg (Nat.lt_irrefl _)]
