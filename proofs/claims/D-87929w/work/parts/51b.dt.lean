/-! the children where a node was taken out -/
def dt_sh (i x : Nat) : Nat := if x < i then x else x - 1
section DT
variable {d : Nat → Nat} {n i p a : Nat}
/-- the children of its parent -/
theorem dt_cl_p (ho : dl_ok d n) (h0 : 0 < i) (hi : i < n) (hp : p < n) (ha : a < (dl_cl d n p).length) (hpa : dl_at d n p a = i) :
    (dl_cl (dt_d d n i) (n - 1) p).length = (dl_cl d n p).length - 1 + (dl_cl d n i).length ∧ ∀ k, k ≤ (dl_cl d n p).length - 1 + (dl_cl d n i).length → dl_at (dt_d d n i) (n - 1) p k = if k < a then dl_at d n p k else if k < a + (dl_cl d n i).length then dl_at d n i (k - a) - 1 else dl_at d n p (k - (dl_cl d n i).length + 1) - 1 := by
  obtain ⟨e1, e2, e3, e4⟩ := dl_en_spec (d := d) hi
  obtain ⟨p1, p2, p3, p4⟩ := dl_en_spec (d := d) hp
  have hin := dl_at_in ho hp ha
  rw [hpa] at hin
  have hle := dl_en_in (d := d) hp hin.1 hin.2.1
  have hnx := dl_at_s ho hp ha
  rw [hpa] at hnx
  have hli := dl_len_lt ho hi
  have enp := dt_en_anc ho h0 hi (x := p) hin.1 hin.2.1
  refine dl_chainF (F := fun k => if k < a then dl_at d n p k else if k < a + (dl_cl d n i).length then dl_at d n i (k - a) - 1 else dl_at d n p (k - (dl_cl d n i).length + 1) - 1) (dt_ok ho h0 hi) (by omega) ?_ (fun k hk => ?_) ?_
  · show (if 0 < a then dl_at d n p 0 else if 0 < a + (dl_cl d n i).length then dl_at d n i (0 - a) - 1 else dl_at d n p (0 - (dl_cl d n i).length + 1) - 1) = p + 1
    by_cases c : 0 < a
    · rw [if_pos c, dl_at_0 ho hp]
    · have ea : a = 0 := by omega
      subst ea
      rw [dl_at_0 ho hp] at hpa
      rw [if_neg c]
      by_cases c2 : 0 < (dl_cl d n i).length
      · rw [if_pos (by omega), Nat.zero_sub, dl_at_0 ho hi]; omega
      · rw [if_neg (by omega), Nat.zero_sub, hnx]
        have := dl_at_len (d := d) (n := n) (i := i) (k := 0) (by omega)
        rw [dl_at_0 ho hi] at this
        omega
  · show (if k < a then dl_at d n p k else if k < a + (dl_cl d n i).length then dl_at d n i (k - a) - 1 else dl_at d n p (k - (dl_cl d n i).length + 1) - 1) < _ ∧ dl_en _ (n - 1) (if k < a then dl_at d n p k else if k < a + (dl_cl d n i).length then dl_at d n i (k - a) - 1 else dl_at d n p (k - (dl_cl d n i).length + 1) - 1) = if k + 1 < a then dl_at d n p (k + 1) else if k + 1 < a + (dl_cl d n i).length then dl_at d n i (k + 1 - a) - 1 else dl_at d n p (k + 1 - (dl_cl d n i).length + 1) - 1
    rw [enp]
    -- what comes first behind i's place
    have first : (if 0 < (dl_cl d n i).length then dl_at d n i 0 - 1 else dl_at d n p (a + 1) - 1) = i := by
      by_cases c : 0 < (dl_cl d n i).length
      · rw [if_pos c, dl_at_0 ho hi]; omega
      · rw [if_neg c, hnx]
        have := dl_at_len (d := d) (n := n) (i := i) (k := 0) (by omega)
        rw [dl_at_0 ho hi] at this
        omega
    by_cases c : k < a
    · have hk2 : k < (dl_cl d n p).length := by omega
      have hin2 := dl_at_in ho hp hk2
      have hlt := dl_at_lt2 ho hp (j := k) a c (by omega)
      have hs := dl_at_s ho hp hk2
      have hcut := dl_at_cut ho hp hin2.1 hlt
      rw [hpa] at hlt hcut
      rw [if_pos c, dt_en_lo ho h0 hi hlt hcut, ← hs]
      refine ⟨by omega, ?_⟩
      by_cases c2 : k + 1 < a
      · rw [if_pos c2]
      · have ek : k + 1 = a := by omega
        rw [if_neg c2, ek, hpa]
        by_cases c3 : 0 < (dl_cl d n i).length
        · rw [if_pos c3] at first
          rw [if_pos (by omega), Nat.sub_self]; exact first.symm
        · rw [if_neg c3] at first
          rw [if_neg (by omega), show a - (dl_cl d n i).length + 1 = a + 1 by omega]; exact first.symm
    · rw [if_neg c]
      by_cases c2 : k < a + (dl_cl d n i).length
      · have hk2 : k - a < (dl_cl d n i).length := by omega
        have hin2 := dl_at_in ho hi hk2
        have hs := dl_at_s ho hi hk2
        rw [if_pos c2, dt_en_hi ho h0 hi hin2.1 (by omega), ← hs]
        refine ⟨by omega, ?_⟩
        rw [if_neg (by omega)]
        by_cases c3 : k + 1 < a + (dl_cl d n i).length
        · rw [if_pos c3, show k + 1 - a = k - a + 1 by omega]
        · rw [if_neg c3, show k + 1 - (dl_cl d n i).length + 1 = a + 1 by omega, hnx, dl_at_len (by omega)]
      · have hk2 : k - (dl_cl d n i).length + 1 < (dl_cl d n p).length := by omega
        have hin2 := dl_at_in ho hp hk2
        have hs := dl_at_s ho hp hk2
        have hlt := dl_at_lt2 ho hp (j := a) (k - (dl_cl d n i).length + 1) (by omega) (by omega)
        rw [hpa] at hlt
        rw [if_neg c2, dt_en_hi ho h0 hi hlt (by omega), ← hs, if_neg (by omega), if_neg (by omega)]
        refine ⟨by omega, ?_⟩
        rw [show k + 1 - (dl_cl d n i).length + 1 = k - (dl_cl d n i).length + 1 + 1 by omega]
  · show (if (dl_cl d n p).length - 1 + (dl_cl d n i).length < a then _ else if (dl_cl d n p).length - 1 + (dl_cl d n i).length < a + (dl_cl d n i).length then _ else dl_at d n p ((dl_cl d n p).length - 1 + (dl_cl d n i).length - (dl_cl d n i).length + 1) - 1) = _
    rw [if_neg (by omega), if_neg (by omega), enp, dl_at_len (by omega)]
end DT
