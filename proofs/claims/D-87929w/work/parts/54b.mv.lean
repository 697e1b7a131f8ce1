/-! MOVE: a branch cut out, then put in again -/
theorem ls_map_ext {l l' : List Nat} {g : Nat → Nat} (h : l'.length = l.length) (h2 : ∀ j, j < l.length → l'.getD j 0 = g (l.getD j 0)) : l' = l.map g := by
  refine ls_ext (by rw [List.length_map, h]) (fun j hj => ?_)
  rw [ls_map_get (by omega)]
  exact h2 j (by omega)
section DJ
variable {d e : Nat → Nat} {n i f m a : Nat}
theorem dj_s (ho : dl_ok d n) (hi : i < n) (hf : dl_bd d n i f) (he : dl_ok e m) {x : Nat} (hx : x < m) : dl_cl (di_d d i f e m) (n + m) (f + x) = (dl_cl e m x).map (f + ·) := by
  obtain ⟨c1, c2⟩ := di_cl_s ho hi hf he hx
  refine ls_map_ext c1 (fun j hj => ?_)
  rw [dl_cl_get (by omega), c2 j (by omega), dl_cl_get hj]
theorem dj_x (ho : dl_ok d n) (hi : i < n) (hf : dl_bd d n i f) (he : dl_ok e m) {x : Nat} (hx : x < n) (hxi : x ≠ i) : dl_cl (di_d d i f e m) (n + m) (di_sh f m x) = (dl_cl d n x).map (di_sh f m) := by
  obtain ⟨c1, c2⟩ := di_cl_x ho hi hf he hx hxi
  refine ls_map_ext c1 (fun j hj => ?_)
  rw [dl_cl_get (by omega), c2 j hj, dl_cl_get hj]
theorem dj_i (ho : dl_ok d n) (hi : i < n) (ha : a ≤ (dl_cl d n i).length) (ef : dl_at d n i a = f) (he : dl_ok e m) : dl_cl (di_d d i f e m) (n + m) i = ls_ins ((dl_cl d n i).map (di_sh f m)) a f := by
  obtain ⟨c1, c2⟩ := di_cl_i ho hi ha ef he
  refine ls_ext (by rw [c1, ls_ins_len (by rw [List.length_map]; exact ha), List.length_map]) (fun j hj => ?_)
  rw [c1] at hj
  rw [dl_cl_get (by omega), c2 j (by omega), ls_ins_get (by rw [List.length_map]; exact ha)]
  by_cases j1 : j < a
  · have hlt := dl_at_lt2 ho hi a j1 ha
    rw [if_pos j1, if_pos j1, ls_map_get (by omega), dl_cl_get (by omega)]
    exact (if_pos (by omega)).symm
  · rw [if_neg j1, if_neg j1]
    by_cases j2 : j = a
    · rw [if_pos j2, if_pos j2]
    · rw [if_neg j2, if_neg j2, ls_map_get (by omega), dl_cl_get (by omega)]
      have hge : f ≤ dl_at d n i (j - 1) := by
        rw [← ef]
        by_cases c3 : a = j - 1
        · rw [← c3]; exact Nat.le_refl _
        · exact Nat.le_of_lt (dl_at_lt2 ho hi (j - 1) (by omega) (by omega))
      exact (if_neg (by omega)).symm
/-- a place between two children is one of their places -/
theorem dl_bd_ex (ho : dl_ok d n) (hi : i < n) (hf : dl_bd d n i f) : ∃ a, a ≤ (dl_cl d n i).length ∧ dl_at d n i a = f := by
  by_cases c : f < dl_en d n i
  · have hm := ((dl_cl_spec ho hi).1 f).mpr ⟨hf.1, c, hf.2.2 c⟩
    obtain ⟨k, h1, h2⟩ := dl_cl_at hm
    exact ⟨k, by omega, h2⟩
  · exact ⟨_, Nat.le_refl _, by rw [dl_at_len (Nat.le_refl _)]; have := hf.2.1; omega⟩
theorem di_sh_inv {k : Nat} (hk : k < n + m) (hf : f ≤ n) : (∃ x, x < m ∧ k = f + x) ∨ ∃ x, x < n ∧ k = di_sh f m x := by
  unfold di_sh
  by_cases c : k < f
  · exact Or.inr ⟨k, by omega, by rw [if_pos c]⟩
  · by_cases c2 : k < f + m
    · exact Or.inl ⟨k - f, by omega, by omega⟩
    · exact Or.inr ⟨k - m, by omega, by rw [if_neg (by omega)]; omega⟩
theorem di_sh_inj {x y : Nat} (h : di_sh f m x = di_sh f m y) : x = y := by
  unfold di_sh at h
  split at h <;> split at h <;> omega
theorem di_sh_lt {x : Nat} (h : x < n) : di_sh f m x < n + m := by
  unfold di_sh
  split <;> omega
theorem di_sh_out {x y : Nat} (hy : y < m) : di_sh f m x ≠ f + y := by
  unfold di_sh
  split <;> omega
end DJ
/-- rows without a branch -/
def dc_d (d : Nat → Nat) (n i k : Nat) : Nat := if k < i then d k else d (k + (dl_en d n i - i))
def ds_d (d : Nat → Nat) (i k : Nat) : Nat := d (i + k) - d i
section DC
variable {d : Nat → Nat} {n i : Nat}
theorem dc_ok (ho : dl_ok d n) (h0 : 0 < i) (hi : i < n) : dl_ok (dc_d d n i) (n - (dl_en d n i - i)) := by
  obtain ⟨e1, e2, e3, e4⟩ := dl_en_spec (d := d) hi
  refine ⟨by omega, by unfold dc_d; rw [if_pos h0]; exact ho.2.1, fun j j0 hj => ?_⟩
  unfold dc_d
  by_cases c : j < i
  · rw [if_pos c, if_pos (by omega)]; exact ho.2.2 j j0 (by omega)
  · rw [if_neg c]
    have hj2 := ho.2.2 (j + (dl_en d n i - i)) (by omega) (by omega)
    by_cases c2 : j - 1 < i
    · have : j = i := by omega
      subst this
      rw [if_pos c2]
      have hi2 := ho.2.2 j h0 hi
      have e5 : j + (dl_en d n j - j) = dl_en d n j := by omega
      rw [e5] at hj2 ⊢
      have := e4 (by omega)
      omega
    · rw [if_neg c2]
      have e5 : j + (dl_en d n i - i) - 1 = j - 1 + (dl_en d n i - i) := by omega
      rw [e5] at hj2
      exact hj2
theorem ds_ok (ho : dl_ok d n) (hi : i < n) : dl_ok (ds_d d i) (dl_en d n i - i) := by
  obtain ⟨e1, e2, e3, e4⟩ := dl_en_spec (d := d) hi
  refine ⟨by omega, by unfold ds_d; rw [Nat.add_zero, Nat.sub_self], fun j j0 hj => ?_⟩
  unfold ds_d
  have h1 := e3 (i + j) (by omega) (by omega)
  have h2 := ho.2.2 (i + j) (by omega) (by omega)
  have e5 : i + j - 1 = i + (j - 1) := by omega
  rw [e5] at h2
  omega
theorem dc_pa (ho : dl_ok d n) (h0 : 0 < i) (hi : i < n) : dl_pa d i < i ∧ i < dl_en d n (dl_pa d i) ∧ dl_en d n i ≤ dl_en d n (dl_pa d i) ∧ d (dl_pa d i) + 1 = d i := by
  obtain ⟨p1, p2, p3⟩ := dl_pa_spec ho h0 hi
  have := (dl_child ho h0 hi (i := dl_pa d i) (by omega)).mp rfl
  exact ⟨p1, this.2.1, dl_en_in (by omega) p1 this.2.1, p2⟩
theorem dc_bd (ho : dl_ok d n) (h0 : 0 < i) (hi : i < n) : dl_bd (dc_d d n i) (n - (dl_en d n i - i)) (dl_pa d i) i := by
  obtain ⟨e1, e2, e3, e4⟩ := dl_en_spec (d := d) hi
  obtain ⟨p1, p2, p3, p4⟩ := dc_pa ho h0 hi
  obtain ⟨x1, x2, x3, x4⟩ := dl_en_spec (d := d) (n := n) (i := dl_pa d i) (by omega)
  have hp : dc_d d n i (dl_pa d i) = d (dl_pa d i) := if_pos p1
  have hen : dl_en (dc_d d n i) (n - (dl_en d n i - i)) (dl_pa d i) = dl_en d n (dl_pa d i) - (dl_en d n i - i) := by
    refine dl_en_uniq (by omega) (by omega) (by omega) (fun k k1 k2 => ?_) (fun c => ?_)
    · rw [hp]
      unfold dc_d
      by_cases c : k < i
      · rw [if_pos c]; exact x3 k k1 (by omega)
      · rw [if_neg c]; exact x3 _ (by omega) (by omega)
    · rw [hp]
      unfold dc_d
      rw [if_neg (by omega)]
      have e5 : dl_en d n (dl_pa d i) - (dl_en d n i - i) + (dl_en d n i - i) = dl_en d n (dl_pa d i) := by omega
      rw [e5]
      exact x4 (by omega)
  refine ⟨p1, by rw [hen]; omega, fun c => ?_⟩
  rw [hen] at c
  rw [hp]
  unfold dc_d
  rw [if_neg (Nat.lt_irrefl _)]
  have e5 : i + (dl_en d n i - i) = dl_en d n i := by omega
  rw [e5]
  have := e4 (by omega)
  have := x3 (dl_en d n i) (by omega) (by omega)
  omega
/-- with the branch at its old place again -/
theorem dc_back (ho : dl_ok d n) (h0 : 0 < i) (hi : i < n) (k : Nat) (hk : k < n) : d k = di_d (dc_d d n i) (dl_pa d i) i (ds_d d i) (dl_en d n i - i) k := by
  obtain ⟨e1, e2, e3, e4⟩ := dl_en_spec (d := d) hi
  obtain ⟨p1, p2, p3, p4⟩ := dc_pa ho h0 hi
  unfold di_d dc_d ds_d
  by_cases c : k < i
  · rw [if_pos c, if_pos c]
  · rw [if_neg c]
    by_cases c2 : k < i + (dl_en d n i - i)
    · rw [if_pos c2, if_pos p1, p4]
      have e5 : i + (k - i) = k := by omega
      rw [e5]
      by_cases c3 : k = i
      · rw [c3]; omega
      · have := e3 k (by omega) (by omega); omega
    · rw [if_neg c2, if_neg (by omega)]
      congr 1
      omega
/-- the children, seen from the rest and from the branch -/
theorem dc_cl_s (ho : dl_ok d n) (h0 : 0 < i) (hi : i < n) {x : Nat} (hx : x < dl_en d n i - i) : dl_cl d n (i + x) = (dl_cl (ds_d d i) (dl_en d n i - i) x).map (i + ·) := by
  obtain ⟨e1, e2, e3, e4⟩ := dl_en_spec (d := d) hi
  obtain ⟨p1, _⟩ := dc_pa ho h0 hi
  have h := dj_s (dc_ok ho h0 hi) (by omega) (dc_bd ho h0 hi) (ds_ok ho hi) hx
  rw [← h, ← dl_cl_congr ho (by omega) (dc_back ho h0 hi)]
  congr 1
  omega
theorem dc_cl_x (ho : dl_ok d n) (h0 : 0 < i) (hi : i < n) {x : Nat} (hx : x < n - (dl_en d n i - i)) (hxp : x ≠ dl_pa d i) : dl_cl d n (di_sh i (dl_en d n i - i) x) = (dl_cl (dc_d d n i) (n - (dl_en d n i - i)) x).map (di_sh i (dl_en d n i - i)) := by
  obtain ⟨e1, e2, e3, e4⟩ := dl_en_spec (d := d) hi
  obtain ⟨p1, _⟩ := dc_pa ho h0 hi
  have h := dj_x (dc_ok ho h0 hi) (by omega) (dc_bd ho h0 hi) (ds_ok ho hi) hx hxp
  have hl : di_sh i (dl_en d n i - i) x < n := by
    have := di_sh_lt (f := i) (m := dl_en d n i - i) hx
    omega
  rw [← h, ← dl_cl_congr ho hl (dc_back ho h0 hi)]
  congr 1
  omega
theorem dc_cl_p (ho : dl_ok d n) (h0 : 0 < i) (hi : i < n) : ∃ a, a ≤ (dl_cl (dc_d d n i) (n - (dl_en d n i - i)) (dl_pa d i)).length ∧ dl_cl d n (dl_pa d i) = ls_ins ((dl_cl (dc_d d n i) (n - (dl_en d n i - i)) (dl_pa d i)).map (di_sh i (dl_en d n i - i))) a i := by
  obtain ⟨e1, e2, e3, e4⟩ := dl_en_spec (d := d) hi
  obtain ⟨p1, _⟩ := dc_pa ho h0 hi
  obtain ⟨a, ha, ef⟩ := dl_bd_ex (dc_ok ho h0 hi) (by omega) (dc_bd ho h0 hi)
  refine ⟨a, ha, ?_⟩
  have h := dj_i (dc_ok ho h0 hi) (by omega) ha ef (ds_ok ho hi)
  rw [← h, ← dl_cl_congr ho (by omega) (dc_back ho h0 hi)]
  congr 1
  omega
/-- a child in the rest is a child of the same one before -/
theorem dc_mem (ho : dl_ok d n) (h0 : 0 < i) (hi : i < n) {x v : Nat} (hx : x < n - (dl_en d n i - i)) (hv : v ∈ dl_cl (dc_d d n i) (n - (dl_en d n i - i)) x) : di_sh i (dl_en d n i - i) v ∈ dl_cl d n (di_sh i (dl_en d n i - i) x) := by
  by_cases e : x = dl_pa d i
  · subst e
    obtain ⟨a, ha, h⟩ := dc_cl_p ho h0 hi
    have e2 : di_sh i (dl_en d n i - i) (dl_pa d i) = dl_pa d i := if_pos (dc_pa ho h0 hi).1
    rw [e2, h]
    unfold ls_ins
    rw [List.mem_append, List.mem_cons]
    have hm : di_sh i (dl_en d n i - i) v ∈ (dl_cl (dc_d d n i) (n - (dl_en d n i - i)) (dl_pa d i)).map (di_sh i (dl_en d n i - i)) := List.mem_map_of_mem hv
    rw [← List.take_append_drop a (List.map (di_sh i (dl_en d n i - i)) _), List.mem_append] at hm
    rcases hm with hm | hm
    · exact Or.inl hm
    · exact Or.inr (Or.inr hm)
  · rw [dc_cl_x ho h0 hi hx e]
    exact List.mem_map_of_mem hv
end DC
