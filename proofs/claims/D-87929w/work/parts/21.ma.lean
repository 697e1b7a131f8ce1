/-! THE MODEL's CELLS AS ROWS, and its small methods -/
/-- a node: name, kind, how deep, label, text -/
abbrev rw_ : Type := Nat × Nat × Nat × List Nat × List Nat
abbrev rw_a (r : rw_) : Nat := r.1
abbrev rw_k (r : rw_) : Nat := r.2.1
abbrev rw_d (r : rw_) : Nat := r.2.2.1
abbrev rw_l (r : rw_) : List Nat := r.2.2.2.1
abbrev rw_t (r : rw_) : List Nat := r.2.2.2.2
/-- a tree: how many nodes, its rows -/
abbrev tr_ : Type := Nat × (Nat → rw_)
abbrev tr_n (t : tr_) : Nat := t.1
abbrev tr_r (t : tr_) : Nat → rw_ := t.2
abbrev tr_a (t : tr_) (i : Nat) : Nat := rw_a (t.2 i)
abbrev tr_k (t : tr_) (i : Nat) : Nat := rw_k (t.2 i)
abbrev tr_d (t : tr_) (i : Nat) : Nat := rw_d (t.2 i)
abbrev tr_l (t : tr_) (i : Nat) : List Nat := rw_l (t.2 i)
abbrev tr_t (t : tr_) (i : Nat) : List Nat := rw_t (t.2 i)
def sg_l (c : Nat) : Prop := 97 ≤ c ∧ c ≤ 122
def sg_s (c : Nat) : Prop := sg_l c ∨ (48 ≤ c ∧ c ≤ 57)
def rw_ok (r : rw_) : Prop := rw_a r < 100000 ∧ rw_k r ≤ 3 ∧ rw_d r < 100 ∧ (rw_l r).length ≤ 6 ∧ (∀ c ∈ rw_l r, sg_l c) ∧ (rw_t r).length ≤ 8 ∧ ∀ c ∈ rw_t r, sg_s c
def ma_nd (X : gm_X) (p i w : Nat) : Int32 := X.2 0 (19 * (30 * p + i) + w)
/-- signs of a node from a place on: how many, which -/
def ma_ml (X : gm_X) (p i w : Nat) (a : List Nat) : Prop := ma_nd X p i w = nI a.length ∧ ∀ j, j < a.length → ma_nd X p i (w + 1 + j) = nI (a.getD j 0)
def ma_mr (X : gm_X) (p i : Nat) (r : rw_) : Prop := ma_nd X p i 0 = nI (rw_a r) ∧ ma_nd X p i 1 = nI (rw_k r) ∧ ma_nd X p i 2 = nI (rw_d r) ∧ ma_ml X p i 3 (rw_l r) ∧ ma_ml X p i 10 (rw_t r)
/-- the depths of a place -/
def ma_md (X : gm_X) (p n : Nat) (d : Nat → Nat) : Prop := p ≤ 10 ∧ X.2 1 p = nI n ∧ n ≤ 30 ∧ ∀ k, k < n → ma_nd X p k 2 = nI (d k) ∧ d k < 100
/-- a place holds a tree -/
def ma_mp (X : gm_X) (p : Nat) (t : tr_) : Prop := p ≤ 10 ∧ X.2 1 p = nI (tr_n t) ∧ tr_n t ≤ 30 ∧ ∀ i, i < tr_n t → ma_mr X p i (tr_r t i) ∧ rw_ok (tr_r t i)
theorem ma_mp.md {X : gm_X} {p : Nat} {t : tr_} (h : ma_mp X p t) : ma_md X p (tr_n t) (tr_d t) := ⟨h.1, h.2.1, h.2.2.1, fun k hk => ⟨(h.2.2.2 k hk).1.2.2.1, (h.2.2.2 k hk).2.2.2.1⟩⟩
theorem ma_ix {p i w : Nat} : (19 : Int32) * (30 * nI p + nI i) + nI w = nI (19 * (30 * p + i) + w) := by
  show nI 19 * (nI 30 * nI p + nI i) + nI w = _
  rw [pk_mul, nI_add, pk_mul, nI_add]
theorem ma_nd_set {X : gm_X} {p i w q k u : Nat} {v : Int32} (hi : i < 30) (hw : w < 19) (hk : k < 30) (hu : u < 19) : ma_nd (gm_pA X 0 (19 * (30 * p + i) + w) v) q k u = if q = p ∧ k = i ∧ u = w then v else ma_nd X q k u := by
  show va_up X.2 0 (upd (X.2 0) (19 * (30 * p + i) + w) v) 0 (19 * (30 * q + k) + u) = _
  rw [va_up_self]
  unfold upd
  by_cases h : q = p ∧ k = i ∧ u = w
  · obtain ⟨rfl, rfl, rfl⟩ := h
    simp
  · rw [if_neg h]
    have : ¬ (19 * (30 * q + k) + u = 19 * (30 * p + i) + w) := by
      intro e
      apply h
      omega
    simp [this]
    rfl
theorem ma_pA_ne {X : gm_X} {a b i : Nat} {v : Int32} (h : b ≠ a) : (gm_pA X a i v).2 b = X.2 b := va_up_ne _ _ h
theorem ma_pA_1 {X : gm_X} {a i : Nat} {v : Int32} : (gm_pA X a i v).1 = X.1 := rfl
theorem ma_pA_at {X : gm_X} {a i j : Nat} {v : Int32} : (gm_pA X a i v).2 a j = if j = i then v else X.2 a j := by
  show va_up X.2 a (upd (X.2 a) i v) a j = _
  rw [va_up_self]
  unfold upd
  by_cases h : j = i <;> simp [h]
theorem ma_pI_2 {X : gm_X} {a : Nat} {v : Int32} : (gm_pI X a v).2 = X.2 := rfl
theorem ma_pI_at {X : gm_X} {a b : Nat} {v : Int32} : (gm_pI X a v).1 b = if b = a then v else X.1 b := by
  show va_up X.1 a v b = _
  by_cases h : b = a
  · subst h; rw [va_up_self, if_pos rfl]
  · rw [va_up_ne _ _ h, if_neg h]
theorem pl_le {a b : Nat} {A B : Prop} (f : a ≤ b → A) (g : b < a → B) (ha : a < 2 ^ 31 := by omega) (hb : b < 2 ^ 31 := by omega) : (nI a ≤ nI b → A) ∧ (¬ nI a ≤ nI b → B) := pk_le a b f g rfl rfl ha hb
theorem pl_lt {a b : Nat} {A B : Prop} (f : a < b → A) (g : b ≤ a → B) (ha : a < 2 ^ 31 := by omega) (hb : b < 2 ^ 31 := by omega) : (nI a < nI b → A) ∧ (¬ nI a < nI b → B) := pk_lt a b f g rfl rfl ha hb
theorem pl_eq {a b : Nat} {A B : Prop} (f : a = b → A) (g : a ≠ b → B) (ha : a < 2 ^ 31 := by omega) (hb : b < 2 ^ 31 := by omega) : (nI a = nI b → A) ∧ (¬ nI a = nI b → B) := pk_eq a b f g rfl rfl ha hb
section MA
variable {θ : gm_T} {P : Int32 → gm_X → Prop} {V : gm_X → Prop} {X : gm_X}
theorem km_of {x1 x2 x3 : Int32} (p i w : Nat) (k : P (ma_nd X p i w) X) (hp : p ≤ 10 := by omega) (hi : i < 30 := by omega) (hw : w < 19 := by omega) (h1 : x1 = nI p := by rfl) (h2 : x2 = nI i := by rfl) (h3 : x3 = nI w := by rfl) :
    gx_C (gm_O θ) mX7_of [.ref (gm_am θ), .int x1, .int x2, .int x3] X (gm_Pi P) := by
  subst h1 h2 h3
  refine em_of (fun K h => bm_of_0 h ?_)
  rw [ma_ix]
  refine ⟨vp_in_nI (by omega) (by decide), ?_⟩
  rw [nI_clamp (by omega)]
  exact k
theorem km_set {x1 x2 x3 x4 : Int32} (p i w : Nat) (k : V (gm_pA X 0 (19 * (30 * p + i) + w) x4)) (hp : p ≤ 10 := by omega) (hi : i < 30 := by omega) (hw : w < 19 := by omega) (h1 : x1 = nI p := by rfl) (h2 : x2 = nI i := by rfl) (h3 : x3 = nI w := by rfl) :
    gx_C (gm_O θ) mX7_set [.ref (gm_am θ), .int x1, .int x2, .int x3, .int x4] X (gm_Pv V) := by
  subst h1 h2 h3
  refine em_set (fun K h => bm_set_0 h ?_)
  rw [ma_ix]
  refine ⟨vp_in_nI (by omega) (by decide), ?_⟩
  rw [nI_clamp (by omega)]
  rintro _ rfl
  exact k
theorem km_deep {x1 x2 : Int32} (p i : Nat) (k : P (ma_nd X p i 2) X) (hp : p ≤ 10 := by omega) (hi : i < 30 := by omega) (h1 : x1 = nI p := by rfl) (h2 : x2 = nI i := by rfl) :
    gx_C (gm_O θ) mX7_deep [.ref (gm_am θ), .int x1, .int x2] X (gm_Pi P) := by
  subst h1 h2
  exact em_deep (fun K h => bm_deep_0 h (km_of p i 2 k))
theorem km_in {x0 x1 x2 : Int32} (k1 : x1 ≤ x0 → x0 ≤ x2 → P 1 X) (k0 : (x0 < x1 ∨ x2 < x0) → P 0 X) : gx_C (gm_O θ) mX7_in [.int x0, .int x1, .int x2] X (gm_Pi P) := by
  refine em_in (fun K h => bm_in_0 h ⟨fun c => bm_in_14 h (k0 (Or.inl c)), fun c => ⟨fun c2 => bm_in_14 h (k0 (Or.inr c2)), fun c2 => k1 (Int32.not_lt.mp c) (Int32.not_lt.mp c2)⟩⟩)
theorem km_isLetter {x0 : Int32} (k1 : 97 ≤ x0 → x0 ≤ 122 → P 1 X) (k0 : (x0 < 97 ∨ 122 < x0) → P 0 X) : gx_C (gm_O θ) mX7_isLetter [.int x0] X (gm_Pi P) := by
  refine em_isLetter (fun K h => bm_isLetter_0 h ⟨fun c => bm_isLetter_16 h (k0 (Or.inl c)), fun c => ⟨fun c2 => bm_isLetter_16 h (k0 (Or.inr c2)), fun c2 => k1 (Int32.not_lt.mp c) (Int32.not_lt.mp c2)⟩⟩)
theorem km_isSign {x0 : Int32} (k1 : ((97 ≤ x0 ∧ x0 ≤ 122) ∨ (48 ≤ x0 ∧ x0 ≤ 57)) → P 1 X) (k0 : ¬ ((97 ≤ x0 ∧ x0 ≤ 122) ∨ (48 ≤ x0 ∧ x0 ≤ 57)) → P 0 X) : gx_C (gm_O θ) mX7_isSign [.int x0] X (gm_Pi P) := by
  refine em_isSign (fun K h => bm_isSign_0 h (km_isLetter (fun a b => ⟨fun q => absurd q (by decide), fun _ => bm_isSign_19 h (k1 (Or.inl ⟨a, b⟩))⟩) (fun a => ⟨fun _ => ⟨fun c => bm_isSign_23 h (k0 ?_), fun c => ⟨fun c2 => bm_isSign_23 h (k0 ?_), fun c2 => bm_isSign_19 h (k1 (Or.inr ⟨Int32.not_lt.mp c, Int32.not_lt.mp c2⟩))⟩⟩, fun q => absurd rfl q⟩)))
  · rintro (q | q)
    · rcases a with a | a
      · exact absurd q.1 (Int32.not_le.mpr a)
      · exact absurd q.2 (Int32.not_le.mpr a)
    · exact absurd q.1 (Int32.not_le.mpr c)
  · rintro (q | q)
    · rcases a with a | a
      · exact absurd q.1 (Int32.not_le.mpr a)
      · exact absurd q.2 (Int32.not_le.mpr a)
    · exact absurd q.2 (Int32.not_le.mpr c2)
theorem km_isPlace {x0 : Int32} (k1 : ∀ p : Nat, p < 8 → x0 = nI p → P 1 X) (k0 : (x0 < 0 ∨ nI 8 ≤ x0) → P 0 X) : gx_C (gm_O θ) mX7_isPlace [.int x0] X (gm_Pi P) := by
  refine em_isPlace (fun K h => bm_isPlace_0 h (km_in (fun a b => ⟨rfl, ?_⟩) (fun a => ⟨rfl, k0 ?_⟩)))
  · obtain ⟨j, hj, e⟩ := nI_of2 (M := 7) (n := 7) (by decide) (Int32.not_lt.mpr a) b
    exact k1 j (by omega) e
  · rcases a with a | a
    · exact Or.inl a
    · refine Or.inr ?_
      rw [Int32.le_iff_toInt_le]
      rw [Int32.lt_iff_toInt_lt] at a
      have e1 : (7 : Int32).toInt = 7 := by decide
      have e2 : (nI 8).toInt = 8 := by decide
      omega
theorem km_found0 {x1 : Int32} (f : Nat) (k : P x1 (gm_pA X 8 f (X.2 8 f + 1))) (hf : f < 10 := by omega) (h1 : -x1 = nI f := by rfl) : gx_C (gm_O θ) mX7_found0 [.ref (gm_am θ), .int x1] X (gm_Pi P) := by
  refine em_found0 (fun K h => bm_found0_0 h ?_)
  rw [h1, nI_clamp (by omega)]
  refine ⟨vp_in_nI hf (by decide), vp_in_nI hf (by decide), ?_⟩
  rintro _ rfl
  exact k
theorem km_lacks {x1 : Int32} (k1 : ∀ p : Nat, p < 8 → x1 = nI p → (X.2 1 p = 0 → P (-2) X) ∧ (¬ X.2 1 p = 0 → P 0 X)) (k0 : (x1 < 0 ∨ nI 8 ≤ x1) → P (-1) X) : gx_C (gm_O θ) mX7_lacks [.ref (gm_am θ), .int x1] X (gm_Pi P) := by
  refine em_lacks (fun K h => bm_lacks_0 h (km_isPlace (fun p hp e => ⟨fun q => absurd q (by decide), fun _ => ?_⟩) (fun a => ⟨fun _ => k0 a, fun q => absurd rfl q⟩)))
  subst e
  refine ⟨vp_in_nI (by omega) (by decide), ?_⟩
  rw [nI_clamp (by omega)]
  exact k1 p hp rfl
theorem km_end {x1 x2 : Int32} (p i : Nat) {n : Nat} {d : Nat → Nat} (hm : ma_md X p n d) (hi : i < n) (k : P (nI (dl_en d n i)) X) (h1 : x1 = nI p := by rfl) (h2 : x2 = nI i := by rfl) : gx_C (gm_O θ) mX7_end [.ref (gm_am θ), .int x1, .int x2] X (gm_Pi P) := by
  subst h1 h2
  obtain ⟨e1, e2, e3, e4⟩ := dl_en_spec (d := d) hi
  obtain ⟨m0, m1, m2, m3⟩ := hm
  refine em_end (fun K h => bm_end_0 h ?_)
  have key : ∀ m q, q + m = dl_en d n i → i < q → gm_G θ K mX7_end (gm_Pi P) 4 [(0, .ref (gm_am θ)), (1, .int (nI p)), (2, .int (nI i)), (3, .int (nI q))] [] X := by
    intro m
    induction m with
    | zero =>
      intro q hq hiq
      refine bm_end_4 h ⟨vp_in_nI (by omega) (by decide), ?_⟩
      rw [nI_clamp (by omega), m1]
      refine pk_le n q (fun c => bm_end_35 h (by rw [show q = dl_en d n i by omega]; exact k)) (fun c => ?_)
      refine km_deep p q (km_deep p i ?_)
      rw [(m3 q c).1, (m3 i hi).1]
      have := (m3 q c).2; have := (m3 i hi).2
      have := e4 (by omega)
      rw [← hq] at this
      exact pk_le (d q) (d i) (fun c => bm_end_35 h (by rw [show q = dl_en d n i by omega]; exact k)) (fun c2 => absurd c2 (by simp at this; omega))
    | succ m ih =>
      intro q hq hiq
      refine bm_end_4 h ⟨vp_in_nI (by omega) (by decide), ?_⟩
      rw [nI_clamp (by omega), m1]
      refine pk_le n q (fun c => by omega) (fun c => ?_)
      refine km_deep p q (km_deep p i ?_)
      rw [(m3 q c).1, (m3 i hi).1]
      have := (m3 q c).2; have := (m3 i hi).2
      have := e3 q hiq (by omega)
      refine pk_le (d q) (d i) (fun c => by omega) (fun c2 => ?_)
      rw [nI_1]
      exact ih (q + 1) (by omega) (by omega)
  rw [nI_1]
  exact key (dl_en d n i - (i + 1)) (i + 1) (by omega) (by omega)
/-- the parent: -1 for the first node -/
theorem km_parent {x1 x2 : Int32} (p i : Nat) {n : Nat} {d : Nat → Nat} (hm : ma_md X p n d) (ho : dl_ok d n) (hi : i < n) (k0 : i = 0 → P (-1) X) (k : 0 < i → P (nI (dl_pa d i)) X) (h1 : x1 = nI p := by rfl) (h2 : x2 = nI i := by rfl) : gx_C (gm_O θ) mX7_parent [.ref (gm_am θ), .int x1, .int x2] X (gm_Pi P) := by
  subst h1 h2
  obtain ⟨m0, m1, m2, m3⟩ := hm
  refine em_parent (fun K h => bm_parent_0 h ?_)
  by_cases h0 : i = 0
  · subst h0
    exact bm_parent_4 h ⟨fun _ => bm_parent_29 h (k0 rfl), fun c => absurd (by decide) c⟩
  · obtain ⟨a1, a2, a3⟩ := dl_pa_spec ho (by omega) hi
    have key : ∀ m q, q = dl_pa d i + m → q < i → gm_G θ K mX7_parent (gm_Pi P) 4 [(0, .ref (gm_am θ)), (1, .int (nI p)), (2, .int (nI i)), (3, .int (nI q))] [] X := by
      intro m
      induction m with
      | zero =>
        intro q hq hqi
        refine bm_parent_4 h ⟨fun c => absurd c (nI_pos (by omega)), fun _ => km_deep p q (km_deep p i ?_)⟩
        rw [(m3 q (by omega)).1, (m3 i hi).1]
        have := (m3 q (by omega)).2; have := (m3 i hi).2
        rw [Nat.add_zero] at hq
        subst hq
        exact pk_lt (d (dl_pa d i)) (d i) (fun _ => bm_parent_29 h (k (by omega))) (fun c => by omega)
      | succ m ih =>
        intro q hq hqi
        refine bm_parent_4 h ⟨fun c => absurd c (nI_pos (by omega)), fun _ => km_deep p q (km_deep p i ?_)⟩
        rw [(m3 q (by omega)).1, (m3 i hi).1]
        have := (m3 q (by omega)).2; have := (m3 i hi).2
        have := a3 q (by omega) (by omega)
        refine pk_lt (d q) (d i) (fun _ => by omega) (fun c => ?_)
        rw [sb_m1 (by omega)]
        exact ih (q - 1) (by omega) (by omega)
    rw [show (1 : Int32) = nI 1 from rfl, pk_sub (by omega)]
    exact key (i - 1 - dl_pa d i) (i - 1) (by omega) (by omega)
end MA
