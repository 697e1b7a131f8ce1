/-! DEPTH ROWS with a branch put in: under i, at f -/
def di_d (d : Nat → Nat) (i f : Nat) (e : Nat → Nat) (m k : Nat) : Nat := if k < f then d k else if k < f + m then e (k - f) + (d i + 1) else d (k - m)
def di_sh (f m x : Nat) : Nat := if x < f then x else x + m
section DI
variable {d e : Nat → Nat} {n i f m a : Nat}
theorem di_lt {k : Nat} (h : k < f) : di_d d i f e m k = d k := if_pos h
theorem di_in {k : Nat} (h : k < m) : di_d d i f e m (f + k) = e k + (d i + 1) := by
  unfold di_d
  rw [if_neg (by omega), if_pos (by omega), Nat.add_sub_cancel_left]
theorem di_ge {k : Nat} (h : f ≤ k) : di_d d i f e m (k + m) = d k := by
  unfold di_d
  rw [if_neg (by omega), if_neg (by omega), Nat.add_sub_cancel]
/-- what stands at the place is no deeper than the branch -/
theorem di_top (hi : i < n) (hf : dl_bd d n i f) (h : f < n) : d f ≤ d i + 1 := by
  obtain ⟨e1, e2, e3, e4⟩ := dl_en_spec (d := d) hi
  by_cases c5 : f < dl_en d n i
  · have := hf.2.2 c5; omega
  · have q : f = dl_en d n i := by have := hf.2.1; omega
    have := e4 (by omega)
    rw [← q] at this
    omega
theorem di_ok (ho : dl_ok d n) (hi : i < n) (hf : dl_bd d n i f) (he : dl_ok e m) : dl_ok (di_d d i f e m) (n + m) := by
  obtain ⟨e1, e2, e3, e4⟩ := dl_en_spec (d := d) hi
  have m0 := he.1
  have br : ∀ x, i ≤ x → x < dl_en d n i → d i ≤ d x := fun x h1 h2 => by
    by_cases c : x = i
    · rw [c]; exact Nat.le_refl _
    · have := e3 x (by omega) h2; omega
  have f1 := hf.1; have f2 := hf.2.1
  refine ⟨by omega, by rw [di_lt (by omega)]; exact ho.2.1, fun j h0 hj => ?_⟩
  by_cases c1 : j < f
  · rw [di_lt c1, di_lt (by omega)]; exact ho.2.2 j h0 (by omega)
  · by_cases c2 : j < f + m
    · obtain ⟨k, rfl⟩ : ∃ k, j = f + k := ⟨j - f, by omega⟩
      rw [di_in (by omega)]
      by_cases c3 : k = 0
      · subst c3
        have e5 : f + 0 - 1 = f - 1 := by omega
        rw [e5, di_lt (k := f - 1) (by omega), he.2.1]
        have := br (f - 1) (by omega) (by omega)
        omega
      · have e5 : f + k - 1 = f + (k - 1) := by omega
        rw [e5, di_in (by omega)]
        have := he.2.2 k (by omega) (by omega)
        omega
    · obtain ⟨k, rfl⟩ : ∃ k, j = k + m := ⟨j - m, by omega⟩
      rw [di_ge (by omega)]
      have hk := ho.2.2 k (by omega) (by omega)
      by_cases c3 : k = f
      · subst c3
        have e5 : k + m - 1 = k + (m - 1) := by omega
        rw [e5, di_in (by omega)]
        have := di_top hi hf (by omega)
        omega
      · have e5 : k + m - 1 = k - 1 + m := by omega
        rw [e5, di_ge (by omega)]
        exact hk
theorem di_en_s (ho : dl_ok d n) (hi : i < n) (hf : dl_bd d n i f) (he : dl_ok e m) {x : Nat} (hx : x < m) : dl_en (di_d d i f e m) (n + m) (f + x) = f + dl_en e m x := by
  obtain ⟨x1, x2, x3, x4⟩ := dl_en_spec (d := e) hx
  obtain ⟨e1, e2, e3, e4⟩ := dl_en_spec (d := d) hi
  have f1 := hf.1; have f2 := hf.2.1
  refine dl_en_uniq (by omega) (by omega) (by omega) (fun k k1 k2 => ?_) (fun c => ?_)
  · obtain ⟨u, rfl⟩ : ∃ u, k = f + u := ⟨k - f, by omega⟩
    rw [di_in hx, di_in (by omega)]
    have := x3 u (by omega) (by omega)
    omega
  · rw [di_in hx]
    by_cases c2 : dl_en e m x < m
    · rw [di_in c2]
      have := x4 c2
      omega
    · have q : dl_en e m x = m := by omega
      rw [q, di_ge (Nat.le_refl _)]
      have := di_top hi hf (by omega)
      omega
theorem di_en_anc (ho : dl_ok d n) (hi : i < n) (hf : dl_bd d n i f) (he : dl_ok e m) {x : Nat} (h1 : x ≤ i) (h2 : i < dl_en d n x) : dl_en (di_d d i f e m) (n + m) x = dl_en d n x + m := by
  obtain ⟨e1, e2, e3, e4⟩ := dl_en_spec (d := d) hi
  obtain ⟨x1, x2, x3, x4⟩ := dl_en_spec (d := d) (n := n) (i := x) (by omega)
  have f1 := hf.1; have f2 := hf.2.1
  have hle : dl_en d n i ≤ dl_en d n x := by
    by_cases c : x = i
    · rw [c]; exact Nat.le_refl _
    · exact dl_en_in (by omega) (by omega) h2
  have hdx : d x ≤ d i := by
    by_cases c : x = i
    · rw [c]; exact Nat.le_refl _
    · have := x3 i (by omega) h2; omega
  refine dl_en_uniq (by omega) (by omega) (by omega) (fun k k1 k2 => ?_) (fun c => ?_)
  · rw [di_lt (k := x) (by omega)]
    by_cases c1 : k < f
    · rw [di_lt c1]; exact x3 k k1 (by omega)
    · by_cases c2 : k < f + m
      · obtain ⟨u, rfl⟩ : ∃ u, k = f + u := ⟨k - f, by omega⟩
        rw [di_in (by omega)]; omega
      · obtain ⟨u, rfl⟩ : ∃ u, k = u + m := ⟨k - m, by omega⟩
        rw [di_ge (by omega)]
        exact x3 u (by omega) (by omega)
  · rw [di_lt (k := x) (by omega), di_ge (by omega)]
    exact x4 (by omega)
theorem di_en_lo (ho : dl_ok d n) (hi : i < n) (hf : dl_bd d n i f) (he : dl_ok e m) {x : Nat} (h1 : x < f) (h2 : ¬ (x ≤ i ∧ i < dl_en d n x)) : dl_en (di_d d i f e m) (n + m) x = dl_en d n x := by
  obtain ⟨e1, e2, e3, e4⟩ := dl_en_spec (d := d) hi
  have f1 := hf.1; have f2 := hf.2.1; have m0 := he.1
  obtain ⟨x1, x2, x3, x4⟩ := dl_en_spec (d := d) (n := n) (i := x) (by omega)
  have hxf : dl_en d n x ≤ f := by
    by_cases c : x ≤ i
    · omega
    · exact dl_bd_cut hi hf (by omega) h1
  refine dl_en_uniq (by omega) x1 (by omega) (fun k k1 k2 => ?_) (fun c => ?_)
  · rw [di_lt (k := x) h1, di_lt (by omega)]; exact x3 k k1 k2
  · rw [di_lt (k := x) h1]
    by_cases c2 : dl_en d n x < f
    · rw [di_lt c2]; exact x4 (by omega)
    · have q : dl_en d n x = f + 0 := by omega
      rw [q, di_in m0, he.2.1]
      have := e3 x (by omega) (by omega)
      omega
theorem di_en_hi (ho : dl_ok d n) (hi : i < n) (hf : dl_bd d n i f) (he : dl_ok e m) {x : Nat} (h1 : f ≤ x) (hx : x < n) : dl_en (di_d d i f e m) (n + m) (x + m) = dl_en d n x + m := by
  obtain ⟨x1, x2, x3, x4⟩ := dl_en_spec (d := d) hx
  refine dl_en_uniq (by omega) (by omega) (by omega) (fun k k1 k2 => ?_) (fun c2 => ?_)
  · obtain ⟨u, rfl⟩ : ∃ u, k = u + m := ⟨k - m, by omega⟩
    rw [di_ge h1, di_ge (by omega)]
    exact x3 u (by omega) (by omega)
  · rw [di_ge h1, di_ge (by omega)]
    exact x4 (by omega)
/-- the children in the branch -/
theorem di_cl_s (ho : dl_ok d n) (hi : i < n) (hf : dl_bd d n i f) (he : dl_ok e m) {x : Nat} (hx : x < m) :
    (dl_cl (di_d d i f e m) (n + m) (f + x)).length = (dl_cl e m x).length ∧ ∀ k, k ≤ (dl_cl e m x).length → dl_at (di_d d i f e m) (n + m) (f + x) k = f + dl_at e m x k := by
  obtain ⟨e1, e2, e3, e4⟩ := dl_en_spec (d := d) hi
  have f1 := hf.1; have f2 := hf.2.1
  have en := di_en_s ho hi hf he hx
  obtain ⟨x1, x2, x3, x4⟩ := dl_en_spec (d := e) hx
  refine dl_chainF (F := fun k => f + dl_at e m x k) (di_ok ho hi hf he) (by omega) ?_ (fun k hk => ?_) ?_
  · show f + dl_at e m x 0 = f + x + 1
    rw [dl_at_0 he hx]; omega
  · have hin := dl_at_in he hx hk
    show f + dl_at e m x k < _ ∧ dl_en _ _ (f + dl_at e m x k) = f + dl_at e m x (k + 1)
    rw [en, di_en_s ho hi hf he (by omega), dl_at_s he hx hk]
    exact ⟨by omega, rfl⟩
  · show f + dl_at e m x (dl_cl e m x).length = _
    rw [en, dl_at_len (Nat.le_refl _)]
/-- the children of its parent -/
theorem di_cl_i (ho : dl_ok d n) (hi : i < n) (ha : a ≤ (dl_cl d n i).length) (ef : dl_at d n i a = f) (he : dl_ok e m) :
    (dl_cl (di_d d i f e m) (n + m) i).length = (dl_cl d n i).length + 1 ∧ ∀ k, k ≤ (dl_cl d n i).length + 1 → dl_at (di_d d i f e m) (n + m) i k = if k < a then dl_at d n i k else if k = a then f else dl_at d n i (k - 1) + m := by
  have hf := dl_bd_at ho hi a
  rw [ef] at hf
  have m0 := he.1
  obtain ⟨e1, e2, e3, e4⟩ := dl_en_spec (d := d) hi
  have en : dl_en (di_d d i f e m) (n + m) i = dl_en d n i + m := di_en_anc ho hi hf he (Nat.le_refl _) e1
  have enf := di_en_s ho hi hf he m0
  rw [Nat.add_zero, dl_en0 he] at enf
  have hb := hf.2.1
  refine dl_chainF (F := fun k => if k < a then dl_at d n i k else if k = a then f else dl_at d n i (k - 1) + m) (di_ok ho hi hf he) (by omega) ?_ (fun k hk => ?_) ?_
  · show (if 0 < a then dl_at d n i 0 else if 0 = a then f else _) = i + 1
    by_cases c : 0 < a
    · rw [if_pos c, dl_at_0 ho hi]
    · have : a = 0 := by omega
      rw [if_neg c, if_pos this.symm, ← ef, this, dl_at_0 ho hi]
  · show (if k < a then dl_at d n i k else if k = a then f else dl_at d n i (k - 1) + m) < _ ∧ dl_en _ (n + m) (if k < a then dl_at d n i k else if k = a then f else dl_at d n i (k - 1) + m) = if k + 1 < a then dl_at d n i (k + 1) else if k + 1 = a then f else dl_at d n i (k + 1 - 1) + m
    rw [en]
    by_cases c : k < a
    · have hin := dl_at_in ho hi (k := k) (by omega)
      have hlt := dl_at_lt2 ho hi (j := k) a c (by omega)
      rw [ef] at hlt
      rw [if_pos c, di_en_lo ho hi hf he hlt (by omega), ← dl_at_s ho hi (k := k) (by omega)]
      refine ⟨by omega, ?_⟩
      by_cases c2 : k + 1 < a
      · rw [if_pos c2]
      · have : k + 1 = a := by omega
        rw [if_neg c2, if_pos this, this, ef]
    · rw [if_neg c]
      by_cases c2 : k = a
      · subst c2
        rw [if_pos rfl, enf, if_neg (by omega), if_neg (by omega), Nat.add_sub_cancel, ef]
        exact ⟨by omega, rfl⟩
      · have hk2 : k - 1 < (dl_cl d n i).length := by omega
        have hin := dl_at_in ho hi hk2
        have hge : f ≤ dl_at d n i (k - 1) := by
          rw [← ef]
          by_cases c3 : a = k - 1
          · rw [← c3]; exact Nat.le_refl _
          · exact Nat.le_of_lt (dl_at_lt2 ho hi (k - 1) (by omega) (by omega))
        rw [if_neg c2, if_neg (by omega), if_neg (by omega), di_en_hi ho hi hf he hge (by omega), ← dl_at_s ho hi hk2]
        refine ⟨by omega, ?_⟩
        rw [show k - 1 + 1 = k + 1 - 1 by omega]
  · show (if (dl_cl d n i).length + 1 < a then _ else if (dl_cl d n i).length + 1 = a then _ else dl_at d n i ((dl_cl d n i).length + 1 - 1) + m) = _
    rw [if_neg (by omega), if_neg (by omega), en, dl_at_len (by omega)]
/-- the children of the others -/
theorem di_cl_x (ho : dl_ok d n) (hi : i < n) (hf : dl_bd d n i f) (he : dl_ok e m) {x : Nat} (hx : x < n) (hxi : x ≠ i) :
    (dl_cl (di_d d i f e m) (n + m) (di_sh f m x)).length = (dl_cl d n x).length ∧ ∀ k, k < (dl_cl d n x).length → dl_at (di_d d i f e m) (n + m) (di_sh f m x) k = di_sh f m (dl_at d n x k) := by
  have m0 := he.1
  obtain ⟨e1, e2, e3, e4⟩ := dl_en_spec (d := d) hi
  obtain ⟨x1, x2, x3, x4⟩ := dl_en_spec (d := d) hx
  have f1 := hf.1; have f2 := hf.2.1
  -- behind x
  have enx : (x < f → ¬ (x ≤ i ∧ i < dl_en d n x) → dl_en (di_d d i f e m) (n + m) (di_sh f m x) = dl_en d n x ∧ dl_en d n x ≤ f) ∧ (¬ (x < f ∧ ¬ (x ≤ i ∧ i < dl_en d n x)) → dl_en (di_d d i f e m) (n + m) (di_sh f m x) = dl_en d n x + m) := by
    refine ⟨fun q1 q2 => ?_, fun q => ?_⟩
    · unfold di_sh
      rw [if_pos q1]
      refine ⟨di_en_lo ho hi hf he q1 q2, ?_⟩
      by_cases c : x ≤ i
      · omega
      · exact dl_bd_cut hi hf (by omega) q1
    · unfold di_sh
      by_cases c : x < f
      · have hanc : x ≤ i ∧ i < dl_en d n x := Classical.byContradiction (fun y => q ⟨c, y⟩)
        rw [if_pos c]; exact di_en_anc ho hi hf he hanc.1 hanc.2
      · rw [if_neg c]; exact di_en_hi ho hi hf he (by omega) hx
  have main := dl_chainF (m := (dl_cl d n x).length) (F := fun k => if k < (dl_cl d n x).length then di_sh f m (dl_at d n x k) else dl_en (di_d d i f e m) (n + m) (di_sh f m x)) (di_ok ho hi hf he) (i := di_sh f m x) (by unfold di_sh; split <;> omega) ?_ (fun k hk => ?_) ?_
  · exact ⟨main.1, fun k hk => by rw [main.2 k (by omega), if_pos hk]⟩
  · show (if 0 < (dl_cl d n x).length then di_sh f m (dl_at d n x 0) else dl_en (di_d d i f e m) (n + m) (di_sh f m x)) = di_sh f m x + 1
    by_cases c : 0 < (dl_cl d n x).length
    · have hin := dl_at_in ho hx c
      rw [if_pos c, dl_at_0 ho hx]
      rw [dl_at_0 ho hx] at hin
      unfold di_sh
      by_cases c2 : x < f
      · rw [if_pos c2]
        by_cases c3 : x + 1 < f
        · rw [if_pos c3]
        · exfalso
          have hxf : x + 1 = f := by omega
          have hgt : i < x := by omega
          have hle := dl_en_in (d := d) hi (j := x) hgt (by omega)
          have := e3 x hgt (by omega)
          have h3 := hf.2.2 (by omega)
          rw [← hxf] at h3
          omega
      · rw [if_neg c2, if_neg (by omega)]; omega
    · rw [if_neg c]
      have : dl_en d n x = x + 1 := by
        have h0 := dl_at_len (d := d) (n := n) (i := x) (k := 0) (by omega)
        rw [dl_at_0 ho hx] at h0
        exact h0.symm
      by_cases c2 : x < f ∧ ¬ (x ≤ i ∧ i < dl_en d n x)
      · rw [(enx.1 c2.1 c2.2).1]
        unfold di_sh
        rw [if_pos c2.1]; exact this
      · rw [enx.2 c2]
        unfold di_sh
        by_cases c3 : x < f
        · exfalso
          exact c2 ⟨c3, fun y => by omega⟩
        · rw [if_neg c3]; omega
  · obtain ⟨q1, q2, q3⟩ := dl_at_in ho hx hk
    have hs := dl_at_s ho hx hk
    obtain ⟨y1, y2, y3, y4⟩ := dl_en_spec (d := d) (n := n) (i := dl_at d n x k) (by omega)
    have hle := dl_en_in hx q1 q2
    show (if k < (dl_cl d n x).length then di_sh f m (dl_at d n x k) else _) < _ ∧ dl_en (di_d d i f e m) (n + m) (if k < (dl_cl d n x).length then di_sh f m (dl_at d n x k) else _) = if k + 1 < (dl_cl d n x).length then di_sh f m (dl_at d n x (k + 1)) else dl_en (di_d d i f e m) (n + m) (di_sh f m x)
    rw [if_pos hk]
    have last : ¬ k + 1 < (dl_cl d n x).length → dl_en d n (dl_at d n x k) = dl_en d n x := fun z => by rw [← hs]; exact dl_at_len (by omega)
    have more : k + 1 < (dl_cl d n x).length → dl_en d n (dl_at d n x k) < dl_en d n x := fun z => by rw [← hs]; exact (dl_at_in ho hx z).2.1
    rw [hs]
    generalize dl_at d n x k = y at *
    refine ⟨?_, ?_⟩
    · by_cases c2 : x < f ∧ ¬ (x ≤ i ∧ i < dl_en d n x)
      · rw [(enx.1 c2.1 c2.2).1]
        have := (enx.1 c2.1 c2.2).2
        unfold di_sh
        rw [if_pos (by omega)]; exact q2
      · rw [enx.2 c2]
        unfold di_sh
        split <;> omega
    · by_cases cy : y < f
      · have esh : di_sh f m y = y := if_pos cy
        rw [esh]
        by_cases an : y ≤ i ∧ i < dl_en d n y
        · have hix : dl_en d n i ≤ dl_en d n y := by
            by_cases c : y = i
            · rw [c]; exact Nat.le_refl _
            · exact dl_en_in (by omega) (by omega) an.2
          rw [di_en_anc ho hi hf he an.1 an.2]
          by_cases cm : k + 1 < (dl_cl d n x).length
          · rw [if_pos cm]
            unfold di_sh
            rw [if_neg (by omega)]
          · rw [if_neg cm, enx.2 (fun z => z.2 ⟨by omega, by omega⟩), last cm]
        · rw [di_en_lo ho hi hf he cy an]
          by_cases cm : k + 1 < (dl_cl d n x).length
          · rw [if_pos cm]
            have hm2 := more cm
            have : dl_en d n y < f := by
              by_cases c : y ≤ i
              · omega
              · have hyf := dl_bd_cut hi hf (y := y) (by omega) cy
                by_cases c3 : x ≤ i
                · exfalso
                  have : x < i := by omega
                  have := e3 y (by omega) (by omega)
                  have hxi2 : d x < d i := x3 i (by omega) (by omega)
                  omega
                · have := dl_bd_cut hi hf (y := x) (by omega) (by omega)
                  omega
            unfold di_sh
            rw [if_pos this]
          · rw [if_neg cm]
            have hlast := last cm
            have hna : ¬ (x ≤ i ∧ i < dl_en d n x) := fun z => by
              have hxi3 : x < i := by omega
              by_cases c : y ≤ i
              · exact an ⟨c, by omega⟩
              · have := e3 y (by omega) (by omega)
                have : d x < d i := x3 i hxi3 z.2
                omega
            rw [(enx.1 (by omega) hna).1, hlast]
      · have esh : di_sh f m y = y + m := if_neg cy
        rw [esh, di_en_hi ho hi hf he (by omega) (by omega)]
        by_cases cm : k + 1 < (dl_cl d n x).length
        · rw [if_pos cm]
          unfold di_sh
          rw [if_neg (by omega)]
        · rw [if_neg cm, last cm]
          rw [enx.2 (fun z => z.2 ?_)]
          by_cases c3 : x ≤ i
          · exact ⟨c3, by omega⟩
          · have := dl_bd_cut hi hf (y := x) (by omega) z.1
            omega
  · show (if (dl_cl d n x).length < (dl_cl d n x).length then _ else dl_en (di_d d i f e m) (n + m) (di_sh f m x)) = _
    rw [if_neg (Nat.lt_irrefl _)]
end DI
