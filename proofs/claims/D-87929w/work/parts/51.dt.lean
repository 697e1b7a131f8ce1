/-! depth rows that are changed: a node is taken out, what is under it comes up -/
def dt_d (d : Nat → Nat) (n i k : Nat) : Nat := if k < i then d k else if k + 1 < dl_en d n i then d (k + 1) - 1 else d (k + 1)
section DT
variable {d : Nat → Nat} {n i : Nat}
theorem dt_lt {k : Nat} (h : k < i) : dt_d d n i k = d k := if_pos h
theorem dt_in {k : Nat} (h : i < k) (h2 : k < dl_en d n i) : dt_d d n i (k - 1) = d k - 1 := by
  unfold dt_d
  rw [if_neg (by omega), if_pos (by omega), show k - 1 + 1 = k by omega]
theorem dt_ge {k : Nat} (h : i < k) (h2 : dl_en d n i ≤ k) : dt_d d n i (k - 1) = d k := by
  unfold dt_d
  rw [if_neg (by omega), if_neg (by omega), show k - 1 + 1 = k by omega]
theorem dt_ok (ho : dl_ok d n) (h0 : 0 < i) (hi : i < n) : dl_ok (dt_d d n i) (n - 1) := by
  obtain ⟨e1, e2, e3, e4⟩ := dl_en_spec (d := d) hi
  have hdi := ho.2.2 i h0 hi
  refine ⟨by omega, by rw [dt_lt h0]; exact ho.2.1, fun j j0 hj => ?_⟩
  by_cases c1 : j < i
  · rw [dt_lt c1, dt_lt (by omega)]; exact ho.2.2 j j0 (by omega)
  · have hj1 := ho.2.2 (j + 1) (by omega) (by omega)
    rw [Nat.add_sub_cancel] at hj1
    by_cases c2 : j + 1 < dl_en d n i
    · have q := dt_in (d := d) (n := n) (i := i) (k := j + 1) (by omega) c2
      rw [Nat.add_sub_cancel] at q
      have hgt := e3 (j + 1) (by omega) c2
      rw [q]
      by_cases c3 : j = i
      · subst c3
        rw [dt_lt (by omega)]
        omega
      · have q2 := dt_in (d := d) (n := n) (i := i) (k := j) (by omega) (by omega)
        rw [q2]
        have := e3 j (by omega) (by omega)
        omega
    · have q := dt_ge (d := d) (n := n) (i := i) (k := j + 1) (by omega) (by omega)
      rw [Nat.add_sub_cancel] at q
      rw [q]
      refine ⟨hj1.1, ?_⟩
      by_cases c3 : j = i
      · subst c3
        rw [dt_lt (by omega)]
        have hen : dl_en d n j = j + 1 := by omega
        have := e4 (by omega)
        rw [hen] at this
        omega
      · by_cases c4 : j < dl_en d n i
        · rw [dt_in (by omega) c4]
          have := e3 j (by omega) c4
          have hen : dl_en d n i = j + 1 := by omega
          have := e4 (by omega)
          rw [hen] at this
          omega
        · rw [dt_ge (by omega) (by omega)]; exact hj1.2
/-- of a node above it: one less -/
theorem dt_en_anc (ho : dl_ok d n) (h0 : 0 < i) (hi : i < n) {x : Nat} (h1 : x < i) (h2 : i < dl_en d n x) : dl_en (dt_d d n i) (n - 1) x = dl_en d n x - 1 := by
  obtain ⟨e1, e2, e3, e4⟩ := dl_en_spec (d := d) hi
  obtain ⟨x1, x2, x3, x4⟩ := dl_en_spec (d := d) (n := n) (i := x) (by omega)
  have hle := dl_en_in (d := d) (n := n) (i := x) (j := i) (by omega) h1 h2
  have hdx := x3 i h1 h2
  refine dl_en_uniq (by omega) (by omega) (by omega) (fun k k1 k2 => ?_) (fun c => ?_)
  · rw [dt_lt (k := x) h1]
    by_cases c1 : k < i
    · rw [dt_lt c1]; exact x3 k k1 (by omega)
    · have hk := x3 (k + 1) (by omega) (by omega)
      by_cases c2 : k + 1 < dl_en d n i
      · have q := dt_in (d := d) (n := n) (i := i) (k := k + 1) (by omega) c2
        rw [Nat.add_sub_cancel] at q
        have := e3 (k + 1) (by omega) c2
        rw [q]; omega
      · have q := dt_ge (d := d) (n := n) (i := i) (k := k + 1) (by omega) (by omega)
        rw [Nat.add_sub_cancel] at q
        rw [q]; exact hk
  · rw [dt_lt (k := x) h1, dt_ge (by omega) hle]
    exact x4 (by omega)
/-- of a node ahead of it that is not above it -/
theorem dt_en_lo (ho : dl_ok d n) (h0 : 0 < i) (hi : i < n) {x : Nat} (h1 : x < i) (h2 : dl_en d n x ≤ i) : dl_en (dt_d d n i) (n - 1) x = dl_en d n x := by
  obtain ⟨e1, e2, e3, e4⟩ := dl_en_spec (d := d) hi
  obtain ⟨x1, x2, x3, x4⟩ := dl_en_spec (d := d) (n := n) (i := x) (by omega)
  refine dl_en_uniq (by omega) x1 (by omega) (fun k k1 k2 => ?_) (fun c => ?_)
  · rw [dt_lt (k := x) h1, dt_lt (by omega)]; exact x3 k k1 k2
  · rw [dt_lt (k := x) h1]
    by_cases c1 : dl_en d n x < i
    · rw [dt_lt c1]; exact x4 (by omega)
    · have q0 : dl_en d n x = i := by omega
      have hx := x4 (by omega)
      rw [q0] at hx ⊢
      by_cases c2 : i + 1 < dl_en d n i
      · have q := dt_in (d := d) (n := n) (i := i) (k := i + 1) (by omega) c2
        rw [Nat.add_sub_cancel] at q
        have := dl_first ho hi c2
        rw [q]; omega
      · have q := dt_ge (d := d) (n := n) (i := i) (k := i + 1) (by omega) (by omega)
        rw [Nat.add_sub_cancel] at q
        rw [q]
        have hen : dl_en d n i = i + 1 := by omega
        have := e4 (by omega)
        rw [hen] at this
        omega
/-- of a node behind it -/
theorem dt_en_hi (ho : dl_ok d n) (h0 : 0 < i) (hi : i < n) {x : Nat} (h1 : i < x) (hx : x < n) : dl_en (dt_d d n i) (n - 1) (x - 1) = dl_en d n x - 1 := by
  obtain ⟨e1, e2, e3, e4⟩ := dl_en_spec (d := d) hi
  obtain ⟨x1, x2, x3, x4⟩ := dl_en_spec (d := d) hx
  by_cases c : x < dl_en d n i
  · have hle := dl_en_in (d := d) hi h1 c
    have hdx := e3 x h1 c
    refine dl_en_uniq (by omega) (by omega) (by omega) (fun k k1 k2 => ?_) (fun c2 => ?_)
    · have q := dt_in (d := d) (n := n) (i := i) (k := k + 1) (by omega) (by omega)
      rw [Nat.add_sub_cancel] at q
      have := x3 (k + 1) (by omega) (by omega)
      rw [dt_in h1 c, q]; omega
    · rw [dt_in h1 c]
      have := x4 (by omega)
      by_cases c3 : dl_en d n x < dl_en d n i
      · rw [dt_in (by omega) c3]; omega
      · have hen : dl_en d n x = dl_en d n i := by omega
        rw [dt_ge (by omega) (by omega), hen]
        have := e4 (by omega)
        omega
  · refine dl_en_uniq (by omega) (by omega) (by omega) (fun k k1 k2 => ?_) (fun c2 => ?_)
    · have q := dt_ge (d := d) (n := n) (i := i) (k := k + 1) (by omega) (by omega)
      rw [Nat.add_sub_cancel] at q
      rw [dt_ge h1 (by omega), q]; exact x3 (k + 1) (by omega) (by omega)
    · rw [dt_ge h1 (by omega), dt_ge (by omega) (by omega)]; exact x4 (by omega)
end DT
