/-! ROWS OF DEPTHS: a tree as the depths of its nodes ahead -/
/-- the last place ahead of k whose depth is below x; 0 when there is none -/
def dl_up (d : Nat → Nat) (x : Nat) : Nat → Nat
  | 0 => 0
  | k + 1 => if d k < x then k else dl_up d x k
def dl_pa (d : Nat → Nat) (j : Nat) : Nat := dl_up d (d j) j
/-- the first place from k on, below n, whose depth is not above x -/
def dl_dn (d : Nat → Nat) (x n : Nat) : Nat → Nat → Nat
  | 0, k => k
  | f + 1, k => if k < n ∧ x < d k then dl_dn d x n f (k + 1) else k
/-- the place behind a node's branch -/
def dl_en (d : Nat → Nat) (n i : Nat) : Nat := dl_dn d (d i) n n (i + 1)
/-- places from j on, each behind the branch of the one ahead, below e -/
def dl_sb (d : Nat → Nat) (n e : Nat) : Nat → Nat → List Nat
  | 0, _ => []
  | f + 1, j => if j < e then j :: dl_sb d n e f (dl_en d n j) else []
def dl_cl (d : Nat → Nat) (n i : Nat) : List Nat := dl_sb d n (dl_en d n i) n (i + 1)
/-- depths of one tree -/
def dl_ok (d : Nat → Nat) (n : Nat) : Prop := 0 < n ∧ d 0 = 0 ∧ ∀ j, 0 < j → j < n → 0 < d j ∧ d j ≤ d (j - 1) + 1
theorem dl_up_spec (d : Nat → Nat) (x : Nat) : ∀ k, (∃ i, i < k ∧ d i < x) → dl_up d x k < k ∧ d (dl_up d x k) < x ∧ ∀ i, dl_up d x k < i → i < k → x ≤ d i := by
  intro k
  induction k with
  | zero => intro ⟨i, h, _⟩; omega
  | succ k ih =>
    intro ⟨i, h1, h2⟩
    unfold dl_up
    by_cases h : d k < x
    · rw [if_pos h]
      exact ⟨by omega, h, fun j a b => by omega⟩
    · rw [if_neg h]
      have hik : i < k := by
        have : i ≠ k := fun q => h (q ▸ h2)
        omega
      obtain ⟨a, b, c⟩ := ih ⟨i, hik, h2⟩
      refine ⟨by omega, b, fun j a1 b1 => ?_⟩
      by_cases hj : j = k
      · subst hj; omega
      · exact c j a1 (by omega)
theorem dl_pa_spec {d : Nat → Nat} {n j : Nat} (h : dl_ok d n) (h0 : 0 < j) (hj : j < n) : dl_pa d j < j ∧ d (dl_pa d j) + 1 = d j ∧ ∀ i, dl_pa d j < i → i ≤ j → d j ≤ d i := by
  obtain ⟨a, b, c⟩ := dl_up_spec d (d j) j ⟨0, h0, by rw [h.2.1]; exact (h.2.2 j h0 hj).1⟩
  have c' : ∀ i, dl_pa d j < i → i ≤ j → d j ≤ d i := fun i h1 h2 => by
    by_cases q : i = j
    · rw [q]; exact Nat.le_refl _
    · exact c i h1 (by omega)
  refine ⟨a, ?_, c'⟩
  have h1 : d (dl_pa d j) < d j := b
  have h2 := (h.2.2 (dl_pa d j + 1) (by omega) (by unfold dl_pa at *; omega)).2
  have h3 := c' (dl_pa d j + 1) (by omega) (by unfold dl_pa at *; omega)
  rw [Nat.add_sub_cancel] at h2
  omega
theorem dl_pa_uniq {d : Nat → Nat} {n j i : Nat} (h : dl_ok d n) (h0 : 0 < j) (hj : j < n) (h1 : i < j) (h2 : d i < d j) (h3 : ∀ k, i < k → k ≤ j → d j ≤ d k) : dl_pa d j = i := by
  obtain ⟨a, b, c⟩ := dl_pa_spec h h0 hj
  rcases Nat.lt_trichotomy (dl_pa d j) i with q | q | q
  · have := c i q (by omega); omega
  · exact q
  · have := h3 _ q (by omega); omega
theorem dl_dn_spec (d : Nat → Nat) (x n : Nat) : ∀ f k, n ≤ f + k → k ≤ n → k ≤ dl_dn d x n f k ∧ dl_dn d x n f k ≤ n ∧ (∀ i, k ≤ i → i < dl_dn d x n f k → x < d i) ∧ (dl_dn d x n f k < n → d (dl_dn d x n f k) ≤ x) := by
  intro f
  induction f with
  | zero =>
    intro k h1 h2
    exact ⟨Nat.le_refl _, h2, fun i a b => by unfold dl_dn at b; omega, fun q => by unfold dl_dn at q; omega⟩
  | succ f ih =>
    intro k h1 h2
    unfold dl_dn
    by_cases h : k < n ∧ x < d k
    · rw [if_pos h]
      obtain ⟨a, b, c, e⟩ := ih (k + 1) (by omega) (by omega)
      refine ⟨by omega, b, fun i a1 b1 => ?_, e⟩
      by_cases q : i = k
      · rw [q]; exact h.2
      · exact c i (by omega) b1
    · rw [if_neg h]
      exact ⟨Nat.le_refl _, h2, fun i a b => by omega, fun q => Nat.le_of_not_lt fun z => h ⟨q, z⟩⟩
theorem dl_en_spec {d : Nat → Nat} {n i : Nat} (hi : i < n) : i < dl_en d n i ∧ dl_en d n i ≤ n ∧ (∀ k, i < k → k < dl_en d n i → d i < d k) ∧ (dl_en d n i < n → d (dl_en d n i) ≤ d i) := by
  obtain ⟨a, b, c, e⟩ := dl_dn_spec d (d i) n n (i + 1) (by omega) (by omega)
  exact ⟨a, b, fun k h1 h2 => c k h1 h2, e⟩
theorem dl_en_uniq {d : Nat → Nat} {n i e : Nat} (hi : i < n) (h1 : i < e) (h2 : e ≤ n) (h3 : ∀ k, i < k → k < e → d i < d k) (h4 : e < n → d e ≤ d i) : dl_en d n i = e := by
  obtain ⟨a, b, c, g⟩ := dl_en_spec (d := d) hi
  rcases Nat.lt_trichotomy (dl_en d n i) e with q | q | q
  · have := h3 _ a q; have := g (by omega); omega
  · exact q
  · have := c _ h1 q; have := h4 (by omega); omega
theorem dl_en0 {d : Nat → Nat} {n : Nat} (h : dl_ok d n) : dl_en d n 0 = n :=
  dl_en_uniq h.1 h.1 (Nat.le_refl _) (fun k h1 h2 => by rw [h.2.1]; exact (h.2.2 k h1 h2).1) (fun q => absurd q (Nat.lt_irrefl _))
/-- a child is inside, one deeper; and back -/
theorem dl_child {d : Nat → Nat} {n i j : Nat} (h : dl_ok d n) (h0 : 0 < j) (hj : j < n) (hi : i < n) : dl_pa d j = i ↔ (i < j ∧ j < dl_en d n i ∧ d j = d i + 1) := by
  obtain ⟨a, b, c⟩ := dl_pa_spec h h0 hj
  obtain ⟨e1, e2, e3, e4⟩ := dl_en_spec (d := d) hi
  constructor
  · intro q
    rw [q] at a b c
    refine ⟨a, ?_, by omega⟩
    refine Nat.lt_of_not_le fun z => ?_
    have := e4 (by omega)
    have := c _ e1 z
    omega
  · intro ⟨q1, q2, q3⟩
    exact dl_pa_uniq h h0 hj q1 (by omega) (fun k k1 k2 => by have := e3 k k1 (by omega); omega)
/-- branches lie inside one another or apart -/
theorem dl_en_in {d : Nat → Nat} {n i j : Nat} (hi : i < n) (h1 : i < j) (h2 : j < dl_en d n i) : dl_en d n j ≤ dl_en d n i := by
  obtain ⟨e1, e2, e3, e4⟩ := dl_en_spec (d := d) hi
  obtain ⟨f1, f2, f3, f4⟩ := dl_en_spec (d := d) (i := j) (n := n) (by omega)
  refine Nat.le_of_not_lt fun z => ?_
  have := f3 _ h2 z
  have := e4 (by omega)
  have := e3 j h1 h2
  omega
theorem dl_d_le {d : Nat → Nat} {n : Nat} (h : dl_ok d n) : ∀ i, i < n → d i ≤ i := by
  intro i
  induction i with
  | zero => intro _; rw [h.2.1]; exact Nat.le_refl _
  | succ i ih => intro hi; have := (h.2.2 (i + 1) (by omega) hi).2; rw [Nat.add_sub_cancel] at this; have := ih (by omega); omega
/-- the place behind a branch, if it is inside one, is as deep as a node on the way -/
theorem dl_next {d : Nat → Nat} {n i j : Nat} (h : dl_ok d n) (hi : i < n) (hj : i < j) (hj2 : j < dl_en d n i) (hd : d j = d i + 1) (he : dl_en d n j < dl_en d n i) : d (dl_en d n j) = d i + 1 := by
  obtain ⟨e1, e2, e3, e4⟩ := dl_en_spec (d := d) hi
  obtain ⟨f1, f2, f3, f4⟩ := dl_en_spec (d := d) (i := j) (n := n) (by omega)
  have := e3 _ (by omega) he
  have := f4 (by omega)
  omega
theorem dl_first {d : Nat → Nat} {n i : Nat} (h : dl_ok d n) (hi : i < n) (he : i + 1 < dl_en d n i) : d (i + 1) = d i + 1 := by
  obtain ⟨e1, e2, e3, e4⟩ := dl_en_spec (d := d) hi
  have := e3 _ (by omega) he
  have h2 := (h.2.2 (i + 1) (by omega) (by omega)).2
  rw [Nat.add_sub_cancel] at h2
  omega
theorem dl_sb_spec {d : Nat → Nat} {n i : Nat} (h : dl_ok d n) (hi : i < n) : ∀ f j, i < j → j ≤ dl_en d n i → (j < dl_en d n i → d j = d i + 1) → dl_en d n i ≤ f + j →
    (∀ k, k ∈ dl_sb d n (dl_en d n i) f j ↔ (j ≤ k ∧ k < dl_en d n i ∧ d k = d i + 1)) ∧ (dl_sb d n (dl_en d n i) f j).Pairwise (· < ·) := by
  obtain ⟨e1, e2, e3, e4⟩ := dl_en_spec (d := d) hi
  intro f
  induction f with
  | zero =>
    intro j h1 h2 h3 h4
    refine ⟨fun k => ⟨fun q => absurd q (by unfold dl_sb; exact List.not_mem_nil), fun q => by omega⟩, by unfold dl_sb; exact List.Pairwise.nil⟩
  | succ f ih =>
    intro j h1 h2 h3 h4
    unfold dl_sb
    by_cases hj : j < dl_en d n i
    · rw [if_pos hj]
      have hd := h3 hj
      obtain ⟨f1, f2, f3, f4⟩ := dl_en_spec (d := d) (i := j) (n := n) (by omega)
      have hle := dl_en_in hi h1 hj
      obtain ⟨m1, m2⟩ := ih (dl_en d n j) (by omega) hle (fun q => dl_next h hi h1 hj hd q) (by omega)
      refine ⟨fun k => ?_, List.pairwise_cons.mpr ⟨fun k hk => by have := (m1 k).mp hk; omega, m2⟩⟩
      rw [List.mem_cons, m1 k]
      constructor
      · rintro (q | q)
        · subst q; exact ⟨Nat.le_refl _, hj, hd⟩
        · exact ⟨by omega, q.2⟩
      · intro ⟨q1, q2, q3⟩
        by_cases q : k = j
        · exact Or.inl q
        · refine Or.inr ⟨Nat.le_of_not_lt fun z => ?_, q2, q3⟩
          have := f3 k (by omega) z
          omega
    · rw [if_neg hj]
      refine ⟨fun k => ⟨fun q => absurd q List.not_mem_nil, fun q => by omega⟩, List.Pairwise.nil⟩
theorem dl_cl_spec {d : Nat → Nat} {n i : Nat} (h : dl_ok d n) (hi : i < n) : (∀ k, k ∈ dl_cl d n i ↔ (i < k ∧ k < dl_en d n i ∧ d k = d i + 1)) ∧ (dl_cl d n i).Pairwise (· < ·) := by
  obtain ⟨e1, e2, e3, e4⟩ := dl_en_spec (d := d) hi
  exact dl_sb_spec h hi n (i + 1) (by omega) (by omega) (fun q => dl_first h hi q) (by omega)
theorem dl_cl_pa {d : Nat → Nat} {n i k : Nat} (h : dl_ok d n) (hi : i < n) : k ∈ dl_cl d n i ↔ (0 < k ∧ k < n ∧ dl_pa d k = i) := by
  obtain ⟨e1, e2, e3, e4⟩ := dl_en_spec (d := d) hi
  rw [(dl_cl_spec h hi).1 k]
  constructor
  · intro q
    exact ⟨by omega, by omega, (dl_child h (by omega) (by omega) hi).mpr q⟩
  · intro ⟨q1, q2, q3⟩
    exact (dl_child h q1 q2 hi).mp q3
/-- rows that rise and have the same members are the same -/
theorem dl_uniq : ∀ {l m : List Nat}, l.Pairwise (· < ·) → m.Pairwise (· < ·) → (∀ k, k ∈ l ↔ k ∈ m) → l = m := by
  intro l
  induction l with
  | nil =>
    intro m _ _ h
    cases m with
    | nil => rfl
    | cons b m => exact absurd ((h b).mpr List.mem_cons_self) List.not_mem_nil
  | cons a l ih =>
    intro m h1 h2 h
    cases m with
    | nil => exact absurd ((h a).mp List.mem_cons_self) List.not_mem_nil
    | cons b m =>
      obtain ⟨p1, p2⟩ := List.pairwise_cons.mp h1
      obtain ⟨r1, r2⟩ := List.pairwise_cons.mp h2
      have hab : a = b := by
        rcases List.mem_cons.mp ((h a).mp List.mem_cons_self) with q | q
        · exact q
        · rcases List.mem_cons.mp ((h b).mpr List.mem_cons_self) with z | z
          · exact z.symm
          · have := r1 a q; have := p1 b z; omega
      subst hab
      congr 1
      refine ih p2 r2 fun k => ?_
      constructor
      · intro hk
        have := p1 k hk
        rcases List.mem_cons.mp ((h k).mp (List.mem_cons_of_mem _ hk)) with q | q
        · omega
        · exact q
      · intro hk
        have := r1 k hk
        rcases List.mem_cons.mp ((h k).mpr (List.mem_cons_of_mem _ hk)) with q | q
        · omega
        · exact q
/-- the k-th place in the row from j on -/
theorem dl_sb_get {d : Nat → Nat} {n e : Nat} : ∀ f j k x, (dl_sb d n e f j)[k]? = some x → x < e ∧ (k = 0 → x = j) := by
  intro f
  induction f with
  | zero => intro j k x h; unfold dl_sb at h; simp at h
  | succ f ih =>
    intro j k x h
    unfold dl_sb at h
    by_cases hj : j < e
    · rw [if_pos hj] at h
      cases k with
      | zero => simp at h; subst h; exact ⟨hj, fun _ => rfl⟩
      | succ k => rw [List.getElem?_cons_succ] at h; exact ⟨(ih _ _ _ h).1, fun q => by omega⟩
    · rw [if_neg hj] at h; simp at h
theorem dl_sb_at {d : Nat → Nat} {n i : Nat} (h : dl_ok d n) (hi : i < n) : ∀ f j, i < j → j ≤ dl_en d n i → (j < dl_en d n i → d j = d i + 1) → dl_en d n i ≤ f + j →
    ((dl_sb d n (dl_en d n i) f j)[0]?).getD (dl_en d n i) = j ∧ ∀ k, k < (dl_sb d n (dl_en d n i) f j).length → ((dl_sb d n (dl_en d n i) f j)[k + 1]?).getD (dl_en d n i) = dl_en d n (((dl_sb d n (dl_en d n i) f j)[k]?).getD (dl_en d n i)) := by
  obtain ⟨e1, e2, e3, e4⟩ := dl_en_spec (d := d) hi
  intro f
  induction f with
  | zero =>
    intro j h1 h2 h3 h4
    unfold dl_sb
    exact ⟨by simp; omega, fun k hk => by simp at hk⟩
  | succ f ih =>
    intro j h1 h2 h3 h4
    unfold dl_sb
    by_cases hj : j < dl_en d n i
    · rw [if_pos hj]
      have hd := h3 hj
      obtain ⟨f1, f2, f3, f4⟩ := dl_en_spec (d := d) (i := j) (n := n) (by omega)
      have hle := dl_en_in hi h1 hj
      obtain ⟨m1, m2⟩ := ih (dl_en d n j) (by omega) hle (fun q => dl_next h hi h1 hj hd q) (by omega)
      refine ⟨by simp, fun k hk => ?_⟩
      cases k with
      | zero => simp only [List.getElem?_cons_succ, List.getElem?_cons_zero, Option.getD_some]; exact m1
      | succ k => simp only [List.getElem?_cons_succ]; exact m2 k (by simpa using hk)
    · rw [if_neg hj]
      exact ⟨by simp; omega, fun k hk => by simp at hk⟩
/-- the k-th child's place; behind the last child the place behind the branch -/
def dl_at (d : Nat → Nat) (n i k : Nat) : Nat := ((dl_cl d n i)[k]?).getD (dl_en d n i)
theorem dl_at_0 {d : Nat → Nat} {n i : Nat} (h : dl_ok d n) (hi : i < n) : dl_at d n i 0 = i + 1 := by
  obtain ⟨e1, e2, e3, e4⟩ := dl_en_spec (d := d) hi
  exact (dl_sb_at h hi n (i + 1) (by omega) (by omega) (fun q => dl_first h hi q) (by omega)).1
theorem dl_at_s {d : Nat → Nat} {n i k : Nat} (h : dl_ok d n) (hi : i < n) (hk : k < (dl_cl d n i).length) : dl_at d n i (k + 1) = dl_en d n (dl_at d n i k) := by
  obtain ⟨e1, e2, e3, e4⟩ := dl_en_spec (d := d) hi
  exact (dl_sb_at h hi n (i + 1) (by omega) (by omega) (fun q => dl_first h hi q) (by omega)).2 k hk
theorem dl_at_len {d : Nat → Nat} {n i k : Nat} (hk : (dl_cl d n i).length ≤ k) : dl_at d n i k = dl_en d n i := by
  unfold dl_at; rw [List.getElem?_eq_none hk]; rfl
theorem dl_at_get {d : Nat → Nat} {n i k : Nat} (hk : k < (dl_cl d n i).length) : (dl_cl d n i)[k]? = some (dl_at d n i k) := by
  unfold dl_at; rw [List.getElem?_eq_getElem hk]; rfl
theorem dl_at_mem {d : Nat → Nat} {n i k : Nat} (hk : k < (dl_cl d n i).length) : dl_at d n i k ∈ dl_cl d n i := List.mem_of_getElem? (dl_at_get hk)
theorem dl_at_in {d : Nat → Nat} {n i k : Nat} (h : dl_ok d n) (hi : i < n) (hk : k < (dl_cl d n i).length) : i < dl_at d n i k ∧ dl_at d n i k < dl_en d n i ∧ d (dl_at d n i k) = d i + 1 := ((dl_cl_spec h hi).1 _).mp (dl_at_mem hk)
theorem dl_at_le {d : Nat → Nat} {n i k : Nat} (h : dl_ok d n) (hi : i < n) : i < dl_at d n i k ∧ dl_at d n i k ≤ dl_en d n i := by
  by_cases hk : k < (dl_cl d n i).length
  · have := dl_at_in h hi hk; omega
  · rw [dl_at_len (by omega)]; have := (dl_en_spec (d := d) hi).1; omega
theorem dl_at_lt {d : Nat → Nat} {n i k : Nat} (h : dl_ok d n) (hi : i < n) : k < (dl_cl d n i).length ↔ dl_at d n i k < dl_en d n i := by
  constructor
  · intro hk; exact (dl_at_in h hi hk).2.1
  · intro hk
    refine Nat.lt_of_not_le fun z => ?_
    rw [dl_at_len z] at hk; omega
theorem dl_at_mono {d : Nat → Nat} {n i k : Nat} (h : dl_ok d n) (hi : i < n) (hk : k < (dl_cl d n i).length) : dl_at d n i k < dl_at d n i (k + 1) := by
  rw [dl_at_s h hi hk]
  obtain ⟨a, b, _⟩ := dl_at_in h hi hk
  have := (dl_en_spec (d := d) hi).2.1
  exact (dl_en_spec (d := d) (by omega)).1
theorem dl_at_ge {d : Nat → Nat} {n i : Nat} (h : dl_ok d n) (hi : i < n) : ∀ k, k ≤ (dl_cl d n i).length → i + 1 + k ≤ dl_at d n i k := by
  intro k
  induction k with
  | zero => intro _; rw [dl_at_0 h hi]; omega
  | succ k ih => intro hk; have := ih (by omega); have := dl_at_mono h hi (k := k) (by omega); omega
theorem dl_len_lt {d : Nat → Nat} {n i : Nat} (h : dl_ok d n) (hi : i < n) : i + 1 + (dl_cl d n i).length ≤ dl_en d n i := by
  have := dl_at_ge h hi _ (Nat.le_refl _); rw [dl_at_len (Nat.le_refl _)] at this; exact this
/-- numbers behind, and of the first one of a branch -/
def dl_bh (d : Nat → Nat) (n i : Nat) : Nat := dl_en d n i - 1 - d i
def dl_lo (d : Nat → Nat) (i : Nat) : Nat := i - d i
theorem dl_bh_lo {d : Nat → Nat} {n i : Nat} (h : dl_ok d n) (hi : i < n) : dl_lo d i ≤ dl_bh d n i ∧ dl_bh d n i < n ∧ dl_bh d n i + d i + 1 = dl_en d n i ∧ dl_lo d i + d i = i := by
  have h1 := dl_d_le h i hi
  obtain ⟨a, b, _, _⟩ := dl_en_spec (d := d) hi
  unfold dl_bh dl_lo
  omega
/-- a node inside a branch is told ahead of it -/
theorem dl_bh_in {d : Nat → Nat} {n i j : Nat} (h : dl_ok d n) (hi : i < n) (h1 : i < j) (h2 : j < dl_en d n i) : dl_lo d i ≤ dl_lo d j ∧ dl_bh d n j < dl_bh d n i := by
  obtain ⟨a, b, c, _⟩ := dl_en_spec (d := d) hi
  have hj : j < n := by omega
  have h3 := dl_en_in hi h1 h2
  have h4 := c j h1 h2
  obtain ⟨p1, p2, p3, p4⟩ := dl_bh_lo h hi
  obtain ⟨r1, r2, r3, r4⟩ := dl_bh_lo h hj
  refine ⟨?_, by omega⟩
  -- depths rise by one at most
  have key : ∀ k, i + k < n → d (i + k) ≤ d i + k := by
    intro k
    induction k with
    | zero => intro _; simp
    | succ k ih =>
      intro hk
      have := (h.2.2 (i + (k + 1)) (by omega) hk).2
      rw [show i + (k + 1) - 1 = i + k by omega] at this
      have := ih (by omega)
      omega
  have := key (j - i) (by omega)
  rw [show i + (j - i) = j by omega] at this
  omega
/-- a node behind a branch is told behind it, with all that is under it -/
theorem dl_bh_out {d : Nat → Nat} {n i j : Nat} (h : dl_ok d n) (hi : i < n) (h2 : dl_en d n i ≤ j) (hj : j < n) : dl_bh d n i < dl_lo d j := by
  obtain ⟨p1, p2, p3, p4⟩ := dl_bh_lo h hi
  obtain ⟨r1, r2, r3, r4⟩ := dl_bh_lo h hj
  obtain ⟨a, b, c, e⟩ := dl_en_spec (d := d) hi
  have key : ∀ k, dl_en d n i + k < n → d (dl_en d n i + k) ≤ d i + k := by
    intro k
    induction k with
    | zero => intro hk; exact e hk
    | succ k ih =>
      intro hk
      have := (h.2.2 (dl_en d n i + (k + 1)) (by omega) hk).2
      rw [show dl_en d n i + (k + 1) - 1 = dl_en d n i + k by omega] at this
      have := ih (by omega)
      omega
  have := key (j - dl_en d n i) (by omega)
  rw [show dl_en d n i + (j - dl_en d n i) = j by omega] at this
  omega
theorem dl_bh_inj {d : Nat → Nat} {n i j : Nat} (h : dl_ok d n) (hi : i < n) (hj : j < n) (e : dl_bh d n i = dl_bh d n j) : i = j := by
  rcases Nat.lt_trichotomy i j with q | q | q
  · by_cases z : j < dl_en d n i
    · have := (dl_bh_in h hi q z).2; omega
    · have := dl_bh_out h hi (by omega) hj; have := (dl_bh_lo h hj).1; omega
  · exact q
  · by_cases z : i < dl_en d n j
    · have := (dl_bh_in h hj q z).2; omega
    · have := dl_bh_out h hj (by omega) hi; have := (dl_bh_lo h hi).1; omega
/-- one that is told apart from others meets all -/
theorem dl_pigeon : ∀ (n : Nat) (f : Nat → Nat), (∀ i, i < n → f i < n) → (∀ i j, i < n → j < n → f i = f j → i = j) → ∀ b, b < n → ∃ i, i < n ∧ f i = b := by
  intro n
  induction n with
  | zero => intro f _ _ b hb; omega
  | succ n ih =>
    intro f h1 h2 b hb
    -- the last one's image is swapped with n
    by_cases hb2 : f n = b
    · exact ⟨n, by omega, hb2⟩
    · let g : Nat → Nat := fun i => if f i = n then f n else f i
      have g1 : ∀ i, i < n → g i < n := by
        intro i hi
        have a1 := h1 i (by omega)
        have a2 := h1 n (by omega)
        by_cases q : f i = n
        · have : g i = f n := if_pos q
          rw [this]
          refine Nat.lt_of_le_of_ne (by omega) fun z => ?_
          have := h2 i n (by omega) (by omega) (by omega)
          omega
        · have : g i = f i := if_neg q
          rw [this]; omega
      have g2 : ∀ i j, i < n → j < n → g i = g j → i = j := by
        intro i j hi hj e
        by_cases q1 : f i = n <;> by_cases q2 : f j = n
        · exact h2 i j (by omega) (by omega) (by omega)
        · have e1 : g i = f n := if_pos q1
          have e2 : g j = f j := if_neg q2
          have := h2 n j (by omega) (by omega) (by omega); omega
        · have e1 : g i = f i := if_neg q1
          have e2 : g j = f n := if_pos q2
          have := h2 i n (by omega) (by omega) (by omega); omega
        · have e1 : g i = f i := if_neg q1
          have e2 : g j = f j := if_neg q2
          exact h2 i j (by omega) (by omega) (by omega)
      by_cases hbn : b = n
      · -- n is the image of one below
        obtain ⟨i, hi, e⟩ := ih g g1 g2 (f n) (by have := h1 n (by omega); omega)
        by_cases q : f i = n
        · exact ⟨i, by omega, by omega⟩
        · have e2 : g i = f i := if_neg q
          have := h2 i n (by omega) (by omega) (by omega); omega
      · obtain ⟨i, hi, e⟩ := ih g g1 g2 b (by omega)
        by_cases q : f i = n
        · have e1 : g i = f n := if_pos q
          omega
        · have e2 : g i = f i := if_neg q
          exact ⟨i, by omega, by omega⟩
/-- the node with a number behind -/
def dl_po (d : Nat → Nat) (n b : Nat) : Nat → Nat
  | 0 => 0
  | k + 1 => if dl_bh d n k = b then k else dl_po d n b k
theorem dl_po_spec {d : Nat → Nat} {n b : Nat} : ∀ k, (∃ i, i < k ∧ dl_bh d n i = b) → dl_po d n b k < k ∧ dl_bh d n (dl_po d n b k) = b := by
  intro k
  induction k with
  | zero => intro ⟨i, h, _⟩; omega
  | succ k ih =>
    intro ⟨i, h1, h2⟩
    unfold dl_po
    by_cases h : dl_bh d n k = b
    · rw [if_pos h]; exact ⟨by omega, h⟩
    · rw [if_neg h]
      have : i ≠ k := fun q => h (q ▸ h2)
      obtain ⟨a, c⟩ := ih ⟨i, by omega, h2⟩
      exact ⟨by omega, c⟩
theorem dl_po_ok {d : Nat → Nat} {n b : Nat} (h : dl_ok d n) (hb : b < n) : dl_po d n b n < n ∧ dl_bh d n (dl_po d n b n) = b :=
  dl_po_spec n (dl_pigeon n (dl_bh d n) (fun i hi => (dl_bh_lo h hi).2.1) (fun i j hi hj e => dl_bh_inj h hi hj e) b hb)
theorem dl_po_bh {d : Nat → Nat} {n i : Nat} (h : dl_ok d n) (hi : i < n) : dl_po d n (dl_bh d n i) n = i := by
  obtain ⟨a, b⟩ := dl_po_ok h (dl_bh_lo h hi).2.1
  exact dl_bh_inj h a hi b
