/-! depth rows that are changed: a node is put in -/
/-- a row that goes from child to child is the row of children -/
theorem dl_chain {d : Nat → Nat} {n i : Nat} {L : List Nat} (h : dl_ok d n) (hi : i < n) (h0 : L.getD 0 (dl_en d n i) = i + 1) (hk : ∀ k, k < L.length → L.getD k (dl_en d n i) < dl_en d n i ∧ dl_en d n (L.getD k (dl_en d n i)) = L.getD (k + 1) (dl_en d n i)) : dl_cl d n i = L := by
  have key : ∀ k, k ≤ L.length → dl_at d n i k = L.getD k (dl_en d n i) ∧ k ≤ (dl_cl d n i).length := by
    intro k
    induction k with
    | zero => intro _; exact ⟨by rw [dl_at_0 h hi, h0], Nat.zero_le _⟩
    | succ k ih =>
      intro hk1
      obtain ⟨e, el⟩ := ih (by omega)
      obtain ⟨q1, q2⟩ := hk k (by omega)
      have hlt : k < (dl_cl d n i).length := (dl_at_lt h hi).mpr (by rw [e]; exact q1)
      exact ⟨by rw [dl_at_s h hi hlt, e]; exact q2, hlt⟩
  obtain ⟨e1, e2⟩ := key L.length (Nat.le_refl _)
  have hlen : (dl_cl d n i).length = L.length := by
    refine Nat.le_antisymm (Nat.not_lt.mp (fun z => ?_)) e2
    have := (dl_at_lt h hi).mp z
    rw [e1, List.getD_eq_getElem?_getD, List.getElem?_eq_none (Nat.le_refl _)] at this
    simp at this
  apply List.ext_getElem hlen
  intro k h1 h2
  have q1 := (key k (by omega)).1
  have q2 := dl_at_get h1
  rw [q1, List.getElem?_eq_getElem h1, List.getD_eq_getElem?_getD, List.getElem?_eq_getElem h2] at q2
  exact Option.some.inj q2
/-- a place between two children of a node -/
def dl_bd (d : Nat → Nat) (n i x : Nat) : Prop := i < x ∧ x ≤ dl_en d n i ∧ (x < dl_en d n i → d x = d i + 1)
theorem dl_bd_at {d : Nat → Nat} {n i : Nat} (h : dl_ok d n) (hi : i < n) (k : Nat) : dl_bd d n i (dl_at d n i k) := by
  have hl := dl_at_le (k := k) h hi
  refine ⟨hl.1, hl.2, fun c => ?_⟩
  exact (dl_at_in h hi ((dl_at_lt h hi).mpr c)).2.2
theorem dl_bd_cut {d : Nat → Nat} {n i x y : Nat} (hi : i < n) (hx : dl_bd d n i x) (h1 : i < y) (h2 : y < x) : dl_en d n y ≤ x := by
  obtain ⟨e1, e2, e3, e4⟩ := dl_en_spec (d := d) hi
  have hy := e3 y h1 (by have := hx.2.1; omega)
  by_cases c : x < dl_en d n i
  · refine Nat.not_lt.mp (fun z => ?_)
    have := (dl_en_spec (d := d) (n := n) (i := y) (by omega)).2.2.1 x h2 z
    have := hx.2.2 c
    omega
  · have : x = dl_en d n i := by have := hx.2.1; omega
    rw [this]
    exact dl_en_in hi h1 (by omega)
def dp_d (d : Nat → Nat) (i f l k : Nat) : Nat := if k < f then d k else if k = f then d i + 1 else if k ≤ l then d (k - 1) + 1 else d (k - 1)
section DP
variable {d : Nat → Nat} {n i f l : Nat}
theorem dp_lt {k : Nat} (h : k < f) : dp_d d i f l k = d k := if_pos h
theorem dp_f : dp_d d i f l f = d i + 1 := by
  unfold dp_d
  rw [if_neg (Nat.lt_irrefl _), if_pos rfl]
theorem dp_in {k : Nat} (h : f ≤ k) (h2 : k < l) : dp_d d i f l (k + 1) = d k + 1 := by
  unfold dp_d
  rw [if_neg (by omega), if_neg (by omega), if_pos (by omega), Nat.add_sub_cancel]
theorem dp_ge {k : Nat} (h : f ≤ k) (h2 : l ≤ k) : dp_d d i f l (k + 1) = d k := by
  unfold dp_d
  rw [if_neg (by omega), if_neg (by omega), if_neg (by omega), Nat.add_sub_cancel]
theorem dp_ok (ho : dl_ok d n) (hi : i < n) (hf : dl_bd d n i f) (hl : dl_bd d n i l) (hfl : f ≤ l) : dl_ok (dp_d d i f l) (n + 1) := by
  obtain ⟨e1, e2, e3, e4⟩ := dl_en_spec (d := d) hi
  have br : ∀ x, i ≤ x → x < dl_en d n i → d i ≤ d x := fun x h1 h2 => by
    by_cases c : x = i
    · rw [c]; exact Nat.le_refl _
    · have := e3 x (by omega) h2; omega
  obtain ⟨f1, f2, f3⟩ := hf
  obtain ⟨l1, l2, l3⟩ := hl
  refine ⟨by omega, by rw [dp_lt (by omega)]; exact ho.2.1, fun j h0 hj => ?_⟩
  by_cases c1 : j < f
  · rw [dp_lt c1, dp_lt (by omega)]; exact ho.2.2 j h0 (by omega)
  · by_cases c2 : j = f
    · subst c2
      rw [dp_f, dp_lt (by omega)]
      have := br (j - 1) (by omega) (by omega)
      omega
    · obtain ⟨k, rfl⟩ : ∃ k, j = k + 1 := ⟨j - 1, by omega⟩
      rw [Nat.add_sub_cancel]
      by_cases c3 : k < l
      · rw [dp_in (by omega) c3]
        by_cases c4 : k = f
        · subst c4
          rw [dp_f]
          have := f3 (by omega)
          omega
        · obtain ⟨m, rfl⟩ : ∃ m, k = m + 1 := ⟨k - 1, by omega⟩
          rw [dp_in (by omega) (by omega)]
          have := ho.2.2 (m + 1) (by omega) (by omega)
          rw [Nat.add_sub_cancel] at this
          omega
      · rw [dp_ge (by omega) (by omega)]
        have hk := ho.2.2 k (by omega) (by omega)
        by_cases c4 : k = f
        · subst c4
          rw [dp_f]
          by_cases c5 : k < dl_en d n i
          · have := f3 c5; omega
          · have : k = dl_en d n i := by omega
            have := e4 (by omega)
            rw [← (by assumption : k = dl_en d n i)] at this
            omega
        · obtain ⟨m, rfl⟩ : ∃ m, k = m + 1 := ⟨k - 1, by omega⟩
          rw [Nat.add_sub_cancel] at hk
          by_cases c5 : m < l
          · rw [dp_in (by omega) c5]; omega
          · rw [dp_ge (by omega) (by omega)]; exact hk
/-- behind the new node's branch -/
theorem dp_en_f (ho : dl_ok d n) (hi : i < n) (hf : dl_bd d n i f) (hl : dl_bd d n i l) (hfl : f ≤ l) : dl_en (dp_d d i f l) (n + 1) f = l + 1 := by
  obtain ⟨e1, e2, e3, e4⟩ := dl_en_spec (d := d) hi
  have f1 := hf.1; have f2 := hf.2.1; have l2 := hl.2.1
  refine dl_en_uniq (by omega) (by omega) (by omega) (fun k k1 k2 => ?_) (fun c => ?_)
  · obtain ⟨m, rfl⟩ : ∃ m, k = m + 1 := ⟨k - 1, by omega⟩
    rw [dp_f, dp_in (by omega) (by omega)]
    have := e3 m (by omega) (by omega)
    omega
  · rw [dp_f, dp_ge (by omega) (by omega)]
    by_cases c5 : l < dl_en d n i
    · have := hl.2.2 c5; omega
    · have q : l = dl_en d n i := by omega
      have := e4 (by omega)
      rw [← q] at this
      omega
/-- of a node above the new one: one more -/
theorem dp_en_anc (ho : dl_ok d n) (hi : i < n) (hf : dl_bd d n i f) (hl : dl_bd d n i l) (hfl : f ≤ l) {x : Nat} (h1 : x ≤ i) (h2 : i < dl_en d n x) : dl_en (dp_d d i f l) (n + 1) x = dl_en d n x + 1 := by
  obtain ⟨e1, e2, e3, e4⟩ := dl_en_spec (d := d) hi
  obtain ⟨x1, x2, x3, x4⟩ := dl_en_spec (d := d) (n := n) (i := x) (by omega)
  have f1 := hf.1; have f2 := hf.2.1; have l2 := hl.2.1
  have hle : dl_en d n i ≤ dl_en d n x := by
    by_cases c : x = i
    · rw [c]; exact Nat.le_refl _
    · exact dl_en_in (by omega) (by omega) h2
  have hdx : d x ≤ d i := by
    by_cases c : x = i
    · rw [c]; exact Nat.le_refl _
    · have := x3 i (by omega) h2; omega
  refine dl_en_uniq (by omega) (by omega) (by omega) (fun k k1 k2 => ?_) (fun c => ?_)
  · rw [dp_lt (k := x) (by omega)]
    by_cases c1 : k < f
    · rw [dp_lt c1]; exact x3 k k1 (by omega)
    · by_cases c2 : k = f
      · subst c2; rw [dp_f]; omega
      · obtain ⟨m, rfl⟩ : ∃ m, k = m + 1 := ⟨k - 1, by omega⟩
        have := x3 m (by omega) (by omega)
        by_cases c3 : m < l
        · rw [dp_in (by omega) c3]; omega
        · rw [dp_ge (by omega) (by omega)]; exact this
  · rw [dp_lt (k := x) (by omega), dp_ge (by omega) (by omega)]
    exact x4 (by omega)
/-- of a node ahead of it that is not above it -/
theorem dp_en_lo (ho : dl_ok d n) (hi : i < n) (hf : dl_bd d n i f) (hl : dl_bd d n i l) (hfl : f ≤ l) {x : Nat} (h1 : x < f) (h2 : ¬ (x ≤ i ∧ i < dl_en d n x)) : dl_en (dp_d d i f l) (n + 1) x = dl_en d n x := by
  obtain ⟨e1, e2, e3, e4⟩ := dl_en_spec (d := d) hi
  have f1 := hf.1; have f2 := hf.2.1; have l2 := hl.2.1
  obtain ⟨x1, x2, x3, x4⟩ := dl_en_spec (d := d) (n := n) (i := x) (by omega)
  have hxf : dl_en d n x ≤ f := by
    by_cases c : x ≤ i
    · omega
    · exact dl_bd_cut hi hf (by omega) h1
  refine dl_en_uniq (by omega) x1 (by omega) (fun k k1 k2 => ?_) (fun c => ?_)
  · rw [dp_lt (k := x) h1, dp_lt (by omega)]; exact x3 k k1 k2
  · rw [dp_lt (k := x) h1]
    by_cases c2 : dl_en d n x < f
    · rw [dp_lt c2]; exact x4 (by omega)
    · have q : dl_en d n x = f := by omega
      rw [q, dp_f]
      have := e3 x (by omega) (by omega)
      omega
/-- of a node behind its place -/
theorem dp_en_hi (ho : dl_ok d n) (hi : i < n) (hf : dl_bd d n i f) (hl : dl_bd d n i l) (hfl : f ≤ l) {x : Nat} (h1 : f ≤ x) (hx : x < n) : dl_en (dp_d d i f l) (n + 1) (x + 1) = dl_en d n x + 1 := by
  obtain ⟨e1, e2, e3, e4⟩ := dl_en_spec (d := d) hi
  have f1 := hf.1; have f2 := hf.2.1; have l2 := hl.2.1
  obtain ⟨x1, x2, x3, x4⟩ := dl_en_spec (d := d) hx
  by_cases c : x < l
  · have hxl := dl_bd_cut hi hl (y := x) (by omega) c
    refine dl_en_uniq (by omega) (by omega) (by omega) (fun k k1 k2 => ?_) (fun c2 => ?_)
    · obtain ⟨m, rfl⟩ : ∃ m, k = m + 1 := ⟨k - 1, by omega⟩
      rw [dp_in h1 c, dp_in (by omega) (by omega)]
      have := x3 m (by omega) (by omega)
      omega
    · rw [dp_in h1 c]
      have := x4 (by omega)
      by_cases c3 : dl_en d n x < l
      · rw [dp_in (by omega) c3]; omega
      · rw [dp_ge (by omega) (by omega)]; omega
  · refine dl_en_uniq (by omega) (by omega) (by omega) (fun k k1 k2 => ?_) (fun c2 => ?_)
    · obtain ⟨m, rfl⟩ : ∃ m, k = m + 1 := ⟨k - 1, by omega⟩
      rw [dp_ge h1 (by omega), dp_ge (by omega) (by omega)]
      exact x3 m (by omega) (by omega)
    · rw [dp_ge h1 (by omega), dp_ge (by omega) (by omega)]
      exact x4 (by omega)
end DP
