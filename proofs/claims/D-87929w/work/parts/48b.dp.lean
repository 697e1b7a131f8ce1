/-! the children where a node was put in -/
theorem dl_chainF {d : Nat → Nat} {n i m : Nat} {F : Nat → Nat} (h : dl_ok d n) (hi : i < n) (h0 : F 0 = i + 1) (hk : ∀ k, k < m → F k < dl_en d n i ∧ dl_en d n (F k) = F (k + 1)) (hm : F m = dl_en d n i) : (dl_cl d n i).length = m ∧ ∀ k, k ≤ m → dl_at d n i k = F k := by
  have key : ∀ k, k ≤ m → dl_at d n i k = F k ∧ k ≤ (dl_cl d n i).length := by
    intro k
    induction k with
    | zero => intro _; exact ⟨by rw [dl_at_0 h hi, h0], Nat.zero_le _⟩
    | succ k ih =>
      intro hk1
      obtain ⟨e, el⟩ := ih (by omega)
      obtain ⟨q1, q2⟩ := hk k (by omega)
      have hlt : k < (dl_cl d n i).length := (dl_at_lt h hi).mpr (by rw [e]; exact q1)
      exact ⟨by rw [dl_at_s h hi hlt, e]; exact q2, hlt⟩
  obtain ⟨e1, e2⟩ := key m (Nat.le_refl _)
  refine ⟨Nat.le_antisymm (Nat.not_lt.mp (fun z => ?_)) e2, fun k hk => (key k hk).1⟩
  have := (dl_at_lt h hi).mp z
  rw [e1, hm] at this
  omega
def dp_sh (f x : Nat) : Nat := if x < f then x else x + 1
section DP
variable {d : Nat → Nat} {n i a m : Nat}
/-- the children of the new node -/
theorem dp_cl_f (ho : dl_ok d n) (hi : i < n) (hm : a + m ≤ (dl_cl d n i).length) :
    (dl_cl (dp_d d i (dl_at d n i a) (dl_at d n i (a + m))) (n + 1) (dl_at d n i a)).length = m ∧ ∀ k, k ≤ m → dl_at (dp_d d i (dl_at d n i a) (dl_at d n i (a + m))) (n + 1) (dl_at d n i a) k = dl_at d n i (a + k) + 1 := by
  have hf := dl_bd_at ho hi a
  have hl := dl_bd_at ho hi (a + m)
  have hfl : dl_at d n i a ≤ dl_at d n i (a + m) := by
    by_cases c : m = 0
    · rw [c]; exact Nat.le_refl _
    · exact Nat.le_of_lt (dl_at_lt2 ho hi (a + m) (by omega) hm)
  have en := dp_en_f ho hi hf hl hfl
  have hen := (dl_en_spec (d := d) hi).2.1
  have hb := hf.2.1
  refine dl_chainF (F := fun k => dl_at d n i (a + k) + 1) (dp_ok ho hi hf hl hfl) (by omega) rfl (fun k hk => ?_) (by rw [en])
  have hk2 : a + k < (dl_cl d n i).length := by omega
  have hin := dl_at_in ho hi hk2
  have hge : dl_at d n i a ≤ dl_at d n i (a + k) := by
    by_cases c : k = 0
    · rw [c]; exact Nat.le_refl _
    · exact Nat.le_of_lt (dl_at_lt2 ho hi (a + k) (by omega) (by omega))
  refine ⟨?_, ?_⟩
  · rw [en]
    have := dl_at_lt2 ho hi (j := a + k) (a + m) (by omega) hm
    omega
  · show dl_en _ (n + 1) (dl_at d n i (a + k) + 1) = dl_at d n i (a + (k + 1)) + 1
    rw [dp_en_hi ho hi hf hl hfl hge (by omega), ← dl_at_s ho hi hk2]
    rfl
/-- the children of its parent -/
theorem dp_cl_i (ho : dl_ok d n) (hi : i < n) (hm : a + m ≤ (dl_cl d n i).length) :
    (dl_cl (dp_d d i (dl_at d n i a) (dl_at d n i (a + m))) (n + 1) i).length = (dl_cl d n i).length - m + 1 ∧ ∀ k, k ≤ (dl_cl d n i).length - m + 1 → dl_at (dp_d d i (dl_at d n i a) (dl_at d n i (a + m))) (n + 1) i k = if k < a then dl_at d n i k else if k = a then dl_at d n i a else dl_at d n i (k - 1 + m) + 1 := by
  have hf := dl_bd_at ho hi a
  have hl := dl_bd_at ho hi (a + m)
  have hfl : dl_at d n i a ≤ dl_at d n i (a + m) := by
    by_cases c : m = 0
    · rw [c]; exact Nat.le_refl _
    · exact Nat.le_of_lt (dl_at_lt2 ho hi (a + m) (by omega) hm)
  obtain ⟨e1, e2, e3, e4⟩ := dl_en_spec (d := d) hi
  have en : dl_en (dp_d d i (dl_at d n i a) (dl_at d n i (a + m))) (n + 1) i = dl_en d n i + 1 := dp_en_anc ho hi hf hl hfl (Nat.le_refl _) e1
  have enf := dp_en_f ho hi hf hl hfl
  have hb := hf.2.1
  refine dl_chainF (F := fun k => if k < a then dl_at d n i k else if k = a then dl_at d n i a else dl_at d n i (k - 1 + m) + 1) (dp_ok ho hi hf hl hfl) (by omega) ?_ (fun k hk => ?_) ?_
  · show (if 0 < a then dl_at d n i 0 else if 0 = a then dl_at d n i a else _) = i + 1
    by_cases c : 0 < a
    · rw [if_pos c, dl_at_0 ho hi]
    · have : a = 0 := by omega
      rw [if_neg c, if_pos this.symm, this, dl_at_0 ho hi]
  · show (if k < a then dl_at d n i k else if k = a then dl_at d n i a else dl_at d n i (k - 1 + m) + 1) < _ ∧ dl_en _ (n + 1) (if k < a then dl_at d n i k else if k = a then dl_at d n i a else dl_at d n i (k - 1 + m) + 1) = if k + 1 < a then dl_at d n i (k + 1) else if k + 1 = a then dl_at d n i a else dl_at d n i (k + 1 - 1 + m) + 1
    rw [en]
    by_cases c : k < a
    · have hin := dl_at_in ho hi (k := k) (by omega)
      have hlt := dl_at_lt2 ho hi (j := k) a c (by omega)
      rw [if_pos c, dp_en_lo ho hi hf hl hfl hlt (by omega), ← dl_at_s ho hi (k := k) (by omega)]
      refine ⟨by omega, ?_⟩
      by_cases c2 : k + 1 < a
      · rw [if_pos c2]
      · have : k + 1 = a := by omega
        rw [if_neg c2, if_pos this, this]
    · rw [if_neg c]
      by_cases c2 : k = a
      · subst c2
        rw [if_pos rfl, enf, if_neg (by omega), if_neg (by omega), Nat.add_sub_cancel]
        exact ⟨by omega, rfl⟩
      · have hk2 : k - 1 + m < (dl_cl d n i).length := by omega
        have hin := dl_at_in ho hi hk2
        have hge : dl_at d n i a ≤ dl_at d n i (k - 1 + m) := by
          by_cases c3 : a = k - 1 + m
          · rw [← c3]; exact Nat.le_refl _
          · exact Nat.le_of_lt (dl_at_lt2 ho hi (k - 1 + m) (by omega) (by omega))
        rw [if_neg c2, if_neg (by omega), if_neg (by omega), dp_en_hi ho hi hf hl hfl hge (by omega), ← dl_at_s ho hi hk2]
        refine ⟨by omega, ?_⟩
        rw [show k - 1 + m + 1 = k + 1 - 1 + m by omega]
  · show (if (dl_cl d n i).length - m + 1 < a then _ else if (dl_cl d n i).length - m + 1 = a then _ else dl_at d n i ((dl_cl d n i).length - m + 1 - 1 + m) + 1) = _
    rw [if_neg (by omega), if_neg (by omega), en, dl_at_len (by omega)]
/-- the children of the others -/
theorem dp_cl_x (ho : dl_ok d n) (hi : i < n) (hm : a + m ≤ (dl_cl d n i).length) {x : Nat} (hx : x < n) (hxi : x ≠ i) :
    (dl_cl (dp_d d i (dl_at d n i a) (dl_at d n i (a + m))) (n + 1) (dp_sh (dl_at d n i a) x)).length = (dl_cl d n x).length ∧ ∀ k, k < (dl_cl d n x).length → dl_at (dp_d d i (dl_at d n i a) (dl_at d n i (a + m))) (n + 1) (dp_sh (dl_at d n i a) x) k = dp_sh (dl_at d n i a) (dl_at d n x k) := by
  have hf := dl_bd_at ho hi a
  have hl := dl_bd_at ho hi (a + m)
  have hfl : dl_at d n i a ≤ dl_at d n i (a + m) := by
    by_cases c : m = 0
    · rw [c]; exact Nat.le_refl _
    · exact Nat.le_of_lt (dl_at_lt2 ho hi (a + m) (by omega) hm)
  generalize dl_at d n i a = f at *
  generalize dl_at d n i (a + m) = l at *
  obtain ⟨e1, e2, e3, e4⟩ := dl_en_spec (d := d) hi
  obtain ⟨x1, x2, x3, x4⟩ := dl_en_spec (d := d) hx
  have f1 := hf.1; have f2 := hf.2.1
  -- behind x
  have enx : (x < f → ¬ (x ≤ i ∧ i < dl_en d n x) → dl_en (dp_d d i f l) (n + 1) (dp_sh f x) = dl_en d n x ∧ dl_en d n x ≤ f) ∧ (¬ (x < f ∧ ¬ (x ≤ i ∧ i < dl_en d n x)) → dl_en (dp_d d i f l) (n + 1) (dp_sh f x) = dl_en d n x + 1) := by
    refine ⟨fun q1 q2 => ?_, fun q => ?_⟩
    · unfold dp_sh
      rw [if_pos q1]
      refine ⟨dp_en_lo ho hi hf hl hfl q1 q2, ?_⟩
      by_cases c : x ≤ i
      · omega
      · exact dl_bd_cut hi hf (by omega) q1
    · unfold dp_sh
      by_cases c : x < f
      · have hanc : x ≤ i ∧ i < dl_en d n x := Classical.byContradiction (fun y => q ⟨c, y⟩)
        rw [if_pos c]; exact dp_en_anc ho hi hf hl hfl hanc.1 hanc.2
      · rw [if_neg c]; exact dp_en_hi ho hi hf hl hfl (by omega) hx
  have main := dl_chainF (m := (dl_cl d n x).length) (F := fun k => if k < (dl_cl d n x).length then dp_sh f (dl_at d n x k) else dl_en (dp_d d i f l) (n + 1) (dp_sh f x)) (dp_ok ho hi hf hl hfl) (i := dp_sh f x) (by unfold dp_sh; split <;> omega) ?_ (fun k hk => ?_) ?_
  · exact ⟨main.1, fun k hk => by rw [main.2 k (by omega), if_pos hk]⟩
  · show (if 0 < (dl_cl d n x).length then dp_sh f (dl_at d n x 0) else dl_en (dp_d d i f l) (n + 1) (dp_sh f x)) = dp_sh f x + 1
    by_cases c : 0 < (dl_cl d n x).length
    · have hin := dl_at_in ho hx c
      rw [if_pos c, dl_at_0 ho hx]
      rw [dl_at_0 ho hx] at hin
      unfold dp_sh
      by_cases c2 : x < f
      · rw [if_pos c2]
        by_cases c3 : x + 1 < f
        · rw [if_pos c3]
        · exfalso
          have hxf : x + 1 = f := by omega
          have hgt : i < x := by omega
          have hle := dl_en_in (d := d) hi (j := x) hgt (by omega)
          have := e3 x hgt (by omega)
          have h3 := hf.2.2 (by omega)
          rw [← hxf] at h3
          omega
      · rw [if_neg c2, if_neg (by omega)]
    · rw [if_neg c]
      have : dl_en d n x = x + 1 := by
        have h0 := dl_at_len (d := d) (n := n) (i := x) (k := 0) (by omega)
        rw [dl_at_0 ho hx] at h0
        exact h0.symm
      by_cases c2 : x < f ∧ ¬ (x ≤ i ∧ i < dl_en d n x)
      · rw [(enx.1 c2.1 c2.2).1]
        unfold dp_sh
        rw [if_pos c2.1]; exact this
      · rw [enx.2 c2]
        unfold dp_sh
        by_cases c3 : x < f
        · exfalso
          exact c2 ⟨c3, fun y => by omega⟩
        · rw [if_neg c3]; omega
  · obtain ⟨q1, q2, q3⟩ := dl_at_in ho hx hk
    have hs := dl_at_s ho hx hk
    obtain ⟨y1, y2, y3, y4⟩ := dl_en_spec (d := d) (n := n) (i := dl_at d n x k) (by omega)
    have hle := dl_en_in hx q1 q2
    show (if k < (dl_cl d n x).length then dp_sh f (dl_at d n x k) else _) < _ ∧ dl_en (dp_d d i f l) (n + 1) (if k < (dl_cl d n x).length then dp_sh f (dl_at d n x k) else _) = if k + 1 < (dl_cl d n x).length then dp_sh f (dl_at d n x (k + 1)) else dl_en (dp_d d i f l) (n + 1) (dp_sh f x)
    rw [if_pos hk]
    have last : ¬ k + 1 < (dl_cl d n x).length → dl_en d n (dl_at d n x k) = dl_en d n x := fun z => by rw [← hs]; exact dl_at_len (by omega)
    have more : k + 1 < (dl_cl d n x).length → dl_en d n (dl_at d n x k) < dl_en d n x := fun z => by rw [← hs]; exact (dl_at_in ho hx z).2.1
    rw [hs]
    generalize dl_at d n x k = y at *
    refine ⟨?_, ?_⟩
    · by_cases c2 : x < f ∧ ¬ (x ≤ i ∧ i < dl_en d n x)
      · rw [(enx.1 c2.1 c2.2).1]
        have := (enx.1 c2.1 c2.2).2
        unfold dp_sh
        rw [if_pos (by omega)]; exact q2
      · rw [enx.2 c2]
        unfold dp_sh
        split <;> omega
    · by_cases cy : y < f
      · have esh : dp_sh f y = y := if_pos cy
        rw [esh]
        by_cases an : y ≤ i ∧ i < dl_en d n y
        · have hix : dl_en d n i ≤ dl_en d n y := by
            by_cases c : y = i
            · rw [c]; exact Nat.le_refl _
            · exact dl_en_in (by omega) (by omega) an.2
          rw [dp_en_anc ho hi hf hl hfl an.1 an.2]
          by_cases cm : k + 1 < (dl_cl d n x).length
          · rw [if_pos cm]
            unfold dp_sh
            rw [if_neg (by omega)]
          · rw [if_neg cm, enx.2 (fun z => z.2 ⟨by omega, by omega⟩), last cm]
        · rw [dp_en_lo ho hi hf hl hfl cy an]
          by_cases cm : k + 1 < (dl_cl d n x).length
          · rw [if_pos cm]
            have hm2 := more cm
            have : dl_en d n y < f := by
              by_cases c : y ≤ i
              · omega
              · have hyf := dl_bd_cut hi hf (y := y) (by omega) cy
                by_cases c3 : x ≤ i
                · exfalso
                  have : x < i := by omega
                  have := e3 y (by omega) (by omega)
                  have hxi2 : d x < d i := x3 i (by omega) (by omega)
                  omega
                · have := dl_bd_cut hi hf (y := x) (by omega) (by omega)
                  omega
            unfold dp_sh
            rw [if_pos this]
          · rw [if_neg cm]
            have hlast := last cm
            have hna : ¬ (x ≤ i ∧ i < dl_en d n x) := fun z => by
              have hxi3 : x < i := by omega
              by_cases c : y ≤ i
              · exact an ⟨c, by omega⟩
              · have := e3 y (by omega) (by omega)
                have : d x < d i := x3 i hxi3 z.2
                omega
            rw [(enx.1 (by omega) hna).1, hlast]
      · have esh : dp_sh f y = y + 1 := if_neg cy
        rw [esh, dp_en_hi ho hi hf hl hfl (by omega) (by omega)]
        by_cases cm : k + 1 < (dl_cl d n x).length
        · rw [if_pos cm]
          unfold dp_sh
          rw [if_neg (by omega)]
        · rw [if_neg cm, last cm]
          rw [enx.2 (fun z => z.2 ?_)]
          by_cases c3 : x ≤ i
          · exact ⟨c3, by omega⟩
          · have := dl_bd_cut hi hf (y := x) (by omega) z.1
            omega
  · show (if (dl_cl d n x).length < (dl_cl d n x).length then _ else dl_en (dp_d d i f l) (n + 1) (dp_sh f x)) = _
    rw [if_neg (Nat.lt_irrefl _)]
end DP
