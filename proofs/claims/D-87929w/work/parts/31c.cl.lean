/-! lists: add at a place, remove, look for, clear -/
def ls_ins (a : List Nat) (i v : Nat) : List Nat := a.take i ++ v :: a.drop i
theorem ls_ins_len {a : List Nat} {i v : Nat} (h : i ≤ a.length) : (ls_ins a i v).length = a.length + 1 := by
  unfold ls_ins
  rw [List.length_append, List.length_take, List.length_cons, List.length_drop]
  omega
theorem ls_ins_get {a : List Nat} {i v : Nat} (h : i ≤ a.length) (j : Nat) : (ls_ins a i v).getD j 0 = if j < i then a.getD j 0 else if j = i then v else a.getD (j - 1) 0 := by
  unfold ls_ins
  by_cases c : j < i
  · rw [if_pos c, ls_app_lt (by rw [List.length_take]; omega), List.getD_eq_getElem?_getD, List.getD_eq_getElem?_getD, List.getElem?_take_of_lt c]
  · rw [if_neg c, ls_app_ge (by rw [List.length_take]; omega), List.length_take, Nat.min_eq_left h]
    by_cases e : j = i
    · subst e
      rw [if_pos rfl, Nat.sub_self]
      rfl
    · rw [if_neg e, show j - i = (j - i - 1) + 1 by omega]
      rw [List.getD_eq_getElem?_getD, List.getD_eq_getElem?_getD, List.getElem?_cons_succ, List.getElem?_drop]
      congr 2
      omega
def ls_del (a : List Nat) (i : Nat) : List Nat := a.take i ++ a.drop (i + 1)
theorem ls_del_len {a : List Nat} {i : Nat} (h : i < a.length) : (ls_del a i).length = a.length - 1 := by
  unfold ls_del
  rw [List.length_append, List.length_take, List.length_drop]
  omega
theorem ls_del_get {a : List Nat} {i : Nat} (h : i < a.length) (j : Nat) : (ls_del a i).getD j 0 = if j < i then a.getD j 0 else a.getD (j + 1) 0 := by
  unfold ls_del
  by_cases c : j < i
  · rw [if_pos c, ls_app_lt (by rw [List.length_take]; omega), List.getD_eq_getElem?_getD, List.getD_eq_getElem?_getD, List.getElem?_take_of_lt c]
  · rw [if_neg c, ls_app_ge (by rw [List.length_take]; omega), List.length_take, Nat.min_eq_left (by omega)]
    rw [List.getD_eq_getElem?_getD, List.getD_eq_getElem?_getD, List.getElem?_drop]
    congr 2
    omega
theorem rd_Q_cQ (σ : gc_S) (a0 a sp dp n x j : Nat) : gc_Q (gc_cQ σ a0 a sp dp n) x j = if x = a ∧ dp ≤ j ∧ j < dp + n then gc_Q σ a0 (sp + (j - dp)) else gc_Q σ x j := by
  show va_up (gc_Q σ) a (va_cpy (gc_Q σ a0) (gc_Q σ a) sp dp n) x j = _
  by_cases h : x = a
  · subst h
    rw [va_up_self]
    unfold va_cpy
    by_cases c : dp ≤ j ∧ j < dp + n
    · rw [if_pos c, if_pos ⟨rfl, c⟩]
    · rw [if_neg c, if_neg (fun z => c z.2)]
  · rw [va_up_ne _ _ h, if_neg (fun z => h z.1)]
theorem rd_E_cE (σ : gc_S) (a0 a sp dp n x j : Nat) : gc_E (gc_cE σ a0 a sp dp n) x j = if x = a ∧ dp ≤ j ∧ j < dp + n then gc_E σ a0 (sp + (j - dp)) else gc_E σ x j := by
  show va_up (gc_E σ) a (va_cpy (gc_E σ a0) (gc_E σ a) sp dp n) x j = _
  by_cases h : x = a
  · subst h
    rw [va_up_self]
    unfold va_cpy
    by_cases c : dp ≤ j ∧ j < dp + n
    · rw [if_pos c, if_pos ⟨rfl, c⟩]
    · rw [if_neg c, if_neg (fun z => c z.2)]
  · rw [va_up_ne _ _ h, if_neg (fun z => h z.1)]
section CL
variable {θ : gc_T} {P : Int32 → gc_S → Prop} {V : gc_S → Prop} {R : Option Nat → gc_S → Prop} {σ : gc_S} {n cc ss : Nat}
theorem kc_addAt {ow : Nat → Nat} {o a v i : Nat} {ch : List Nat} {x : Int32} (hθ : cTh θ) (hoc : oc σ ow) (hl : cL θ σ ow o a ch) (h40 : ch.length ≤ 40) (hv : gc_isV θ σ v) (hi : i ≤ ch.length)
    (k : ∀ σ' ow', (∀ x, x ∈ gc_d σ → ow' x = ow x) → oc σ' ow' → cx θ (cLs σ ow o) σ σ' → cL θ σ' ow' o a (ls_ins ch i v) → V σ')
    (hx : x = nI i := by rfl) (hn : 6 ≤ n := by omega) (hc : 1 ≤ cc := by omega) (hs : 60 ≤ ss := by omega) : gx_C (gc_O θ) (nJ5_add_3 n cc ss) [.ref a, .int x, .ref v] σ (gc_Pv V) := by
  subst hx
  obtain ⟨n, rfl⟩ : ∃ k, n = k + 2 := ⟨n - 2, by omega⟩
  have hl0 := hl
  obtain ⟨h1, h2, h3, r, h4, h5⟩ := hl
  refine ec_J5_add_3 (x2 := some v) (fun K h => bc_J5_add_3_0 h ⟨h2, ec_J5_rangeCheckForAdd (fun K' h' => bc_J5_rangeCheckForAdd_0 h' ⟨h2, ?_⟩)⟩)
  rw [h3]
  refine pl_lt (fun c => by omega) (fun _ => ⟨fun _ => ⟨h2, h2, ?_⟩, fun c => absurd (nI_pos' (by omega)) c⟩)
  rintro _ rfl
  have hx0 : cx θ (cLs σ ow o) σ (gc_sI σ 1200 a (gc_I σ 1200 a + 1)) := (cx_sI σ 1200 a _).mono (fun b _ e => by rw [e]; exact ⟨h2.1, h1, Or.inl h2.2⟩)
  have hl1 : cL θ (gc_sI σ 1200 a (gc_I σ 1200 a + 1)) ow o a ch := ⟨h1, h2, by rw [rd_I_sI, if_neg (by simp)]; exact h3, r, h4, h5⟩
  have hdτ : gc_d (gc_sI σ 1200 a (gc_I σ 1200 a + 1)) = gc_d σ := rfl
  have hoσ : o ∈ gc_d σ := by have := hoc a h2.1; rw [h1] at this; exact this
  generalize gc_sI σ 1200 a (gc_I σ 1200 a + 1) = τ at hx0 hl1 hdτ
  obtain ⟨_, t2, t3, r', t4, t5⟩ := hl1
  have fin : ∀ (σ1 : gc_S) (q : Nat) (ow' : Nat → Nat) (bc bs : Nat), (∀ x, x ∈ gc_d σ → ow' x = ow x) → oc σ1 ow' → cx θ (cLs σ ow o) σ σ1 → ow' q = o → (q ∈ gc_d σ → ow q = o) → gc_is σ1 q 20 → ch.length < gc_n σ1 q → gc_n σ1 q ≤ 60 → 10 ≤ gc_n σ1 q → gc_R σ1 1201 a = some q → (∀ j, j < ch.length → gc_Q σ1 q j = some (ch.getD j 0)) → (∀ j y, gc_Q σ1 q j = some y → gc_isV θ σ1 y) →
      gc_G θ K (nJ5_add_3 (n + 1 + 1) cc ss) (gc_Pv V) 38 [(0, va_rf (some a)), (1, .int (nI i)), (2, va_rf (some v)), (3, .int (nI ch.length)), (4, va_rf (some q))] [] σ1 bc bs := by
    intro σ1 q ow' bc bs e1 e0 e2 e3 e3' e4 e5 e6 e7 e8 e9 e10
    refine bc_J5_add_3_38 h ⟨q, rfl, ?_⟩
    rw [nI_1, pk_sub (by omega), nI_clamp (by omega), nI_clamp (by omega), nI_clamp (by omega)]
    refine ⟨⟨e4, e4, nI_pos (by omega), nI_pos (by omega), nI_pos (by omega), by omega, by omega⟩, fun j _ y hy => e10 _ y hy, ?_⟩
    rintro _ rfl
    have hqS : ∀ b, b = q → cLs σ ow o b ∨ (b ∉ gc_d σ ∧ gc_A θ b) := fun b hb => by
      subst hb
      by_cases c : b ∈ gc_d σ
      · exact Or.inl ⟨c, e3' c, Or.inr (by rw [← (e2.2.2.1 b (Or.inl c)).1]; exact e4.2)⟩
      · exact Or.inr ⟨c, (e2.2.1 b e4.1).resolve_left c⟩
    have x0 := e2.trans (cx_cQ σ1 q q i (i + 1) (ch.length - i)) hqS
    refine ⟨e4, vp_in_nI (show i < gc_n σ1 q by omega) (show gc_n σ1 q < 2 ^ 31 by omega), fun w hw => by obtain rfl := Option.some.inj hw; exact x0.isV hv, ?_⟩
    rintro _ rfl
    refine ⟨e2.is h2, ?_⟩
    rw [nI_1]
    rintro _ rfl
    have x1 := (x0.trans (cx_sQ (gc_cQ σ1 q q i (i + 1) (ch.length - i)) q i (some v)) hqS).trans (cx_sI (gc_sQ (gc_cQ σ1 q q i (i + 1) (ch.length - i)) q i (some v)) 1202 a (nI (ch.length + 1))) (fun b hb => by subst hb; exact Or.inl ⟨h2.1, h1, Or.inl h2.2⟩)
    refine k _ ow' e1 (e0.same rfl) x1 ⟨by rw [e1 a h2.1]; exact h1, x1.is h2, ?_, q, e8, Or.inr ⟨e3, e4, ?_, e6, e7, ?_, ?_⟩⟩
    · rw [rd_I_sI, if_pos ⟨rfl, rfl⟩, ls_ins_len hi]
    · rw [ls_ins_len hi]; exact e5
    · intro j hj
      rw [ls_ins_len hi] at hj
      rw [rd_Q_sI, rd_Q_sQ, rd_Q_cQ, ls_ins_get hi]
      by_cases c1 : j < i
      · rw [if_neg (by omega), if_neg (by omega), if_pos c1]; exact e9 j (by omega)
      · by_cases c2 : j = i
        · rw [if_pos ⟨rfl, c2⟩, if_neg c1, if_pos c2]
        · rw [if_neg (by omega), if_pos ⟨rfl, by omega, by omega⟩, if_neg c1, if_neg c2, e9 _ (by omega)]
          congr 2; omega
    · intro j y hy
      rw [rd_Q_sI, rd_Q_sQ, rd_Q_cQ] at hy
      split at hy
      · obtain rfl := Option.some.inj hy
        exact x1.isV hv
      · split at hy
        · exact e10 _ y hy
        · exact e10 j y hy
  have hl1 : cL θ τ ow o a ch := ⟨h1, t2, t3, r', t4, t5⟩
  refine ⟨t2, t2, r', t4, ?_, ?_⟩
  · rcases t5 with t5 | t5
    · exact Or.inr ⟨t5.1, t5.2.1⟩
    · exact Or.inl t5.2.1
  · rw [t3, t4]
    refine ⟨fun c => ⟨cc, ss, ⟨Nat.le_refl _, Nat.le_refl _⟩, t2, ?_⟩, fun c => ?_⟩
    · have hle : gc_n τ r' ≤ 60 := by
        rcases t5 with t5 | t5
        · omega
        · exact t5.2.2.2.1
      have c' : nI ch.length = nI (gc_n τ r') := c
      rw [nI_eq (by omega) (by omega)] at c'
      refine kc_grow hθ hl1 h40 t4 c'.symm (fun σ1 q q1 q2 q3 q4 q5 q6 q7 q8 q9 q10 q11 q12 q13 => ?_)
      have hqσ : q ∉ gc_d σ := fun z => q1 (hx0.1 q z)
      have hx1 : cx θ (cLs σ ow o) σ σ1 := hx0.trans q4 (fun b hb => by subst hb; exact Or.inl ⟨h2.1, h1, Or.inl h2.2⟩)
      refine fin σ1 q (fun x => if x = q then o else ow x) _ _ (fun x hx => if_neg (fun z : x = q => hqσ (z ▸ hx))) ((hoc.same hdτ).new q3 (Or.inl (by rw [hdτ]; exact hoσ))) hx1 (if_pos rfl) (fun z => absurd z hqσ) q5 q6 q7 q8 q9 q12 q13
    · rcases t5 with t5 | ⟨a1, a2, a3, a4, a5, a6, a7⟩
      · exact absurd (by rw [t5.2.1, t5.2.2]; rfl) c
      · have c' : ¬ nI ch.length = nI (gc_n τ r') := c
        rw [nI_eq (by omega) (by omega)] at c'
        exact fin τ r' ow _ _ (fun _ _ => rfl) (hoc.same hdτ) hx0 a1 (fun _ => a1) a2 (by omega) a4 a5 t4 a6 a7
theorem kc_fastRemove {ow : Nat → Nat} {o a i r : Nat} {ch : List Nat} {x : Int32} (hl : cL θ σ ow o a ch) (hr : gc_R σ 1201 a = some r) (hi : i < ch.length) (k : ∀ σ', gc_d σ' = gc_d σ → cx θ (cLs σ ow o) σ σ' → cL θ σ' ow o a (ls_del ch i) → V σ')
    (hx : x = nI i := by rfl) (hn : 1 ≤ n := by omega) : gx_C (gc_O θ) (nJ5_fastRemove n) [.ref a, .ref r, .int x] σ (gc_Pv V) := by
  subst hx
  obtain ⟨n, rfl⟩ : ∃ k, n = k + 1 := ⟨n - 1, by omega⟩
  obtain ⟨h1, h2, h3, r', h4, h5⟩ := hl
  rw [h4] at hr
  obtain rfl : r' = r := Option.some.inj hr
  obtain ⟨a1, a2, a3, a4, a5, a6, a7⟩ : ow r' = o ∧ gc_is σ r' 20 ∧ ch.length ≤ gc_n σ r' ∧ gc_n σ r' ≤ 60 ∧ 10 ≤ gc_n σ r' ∧ (∀ j, j < ch.length → gc_Q σ r' j = some (ch.getD j 0)) ∧ ∀ j y, gc_Q σ r' j = some y → gc_isV θ σ y := by
    rcases h5 with h5 | h5
    · rw [h5.2.2] at hi; exact absurd hi (Nat.not_lt_zero _)
    · exact h5
  refine ec_J5_fastRemove (x1 := some r') (fun K h => bc_J5_fastRemove_0 h ⟨h2, h2, ?_⟩)
  rintro _ rfl
  have hI : gc_I (gc_sI σ 1200 a (gc_I σ 1200 a + 1)) 1202 a = nI ch.length := by rw [rd_I_sI, if_neg (by simp)]; exact h3
  have e1 : nI ch.length - 1 = nI (ch.length - 1) := by rw [show (1 : Int32) = nI 1 from rfl, pk_sub (by omega)]
  rw [hI, e1]
  have fin : ∀ (σ1 : gc_S) (bc bs : Nat), cx θ (cLs σ ow o) σ σ1 → gc_d σ1 = gc_d σ → gc_k σ1 = gc_k σ → gc_n σ1 = gc_n σ → gc_R σ1 = gc_R σ → (∀ j, j < ch.length - 1 → gc_Q σ1 r' j = some ((ls_del ch i).getD j 0)) → (∀ j y, gc_Q σ1 r' j = some y → gc_isV θ σ1 y) →
      gc_G θ K (nJ5_fastRemove (n + 1)) (gc_Pv V) 34 [(0, va_rf (some a)), (1, va_rf (some r')), (3, .int (nI (ch.length - 1)))] [] σ1 bc bs := by
    intro σ1 bc bs e1 e2 e3 e4 e5 e6 e7
    refine bc_J5_fastRemove_34 h ⟨e1.is h2, ?_⟩
    rintro _ rfl
    refine ⟨r', rfl, e1.is a2, vp_in_nI (by show ch.length - 1 < gc_n σ1 r'; rw [e4]; omega) (by show gc_n σ1 r' < _; rw [e4]; omega), fun v hv => absurd hv (by simp), ?_⟩
    rintro _ rfl
    rw [nI_clamp (by omega)]
    have x1 := (e1.trans (cx_sI σ1 1202 a (nI (ch.length - 1))) (fun b hb => by subst hb; exact Or.inl ⟨h2.1, h1, Or.inl h2.2⟩)).trans (cx_sQ (gc_sI σ1 1202 a (nI (ch.length - 1))) r' (ch.length - 1) none) (fun b hb => by subst hb; exact Or.inl ⟨a2.1, a1, Or.inr a2.2⟩)
    refine k _ e2 x1 ⟨h1, x1.is h2, ?_, r', ?_, Or.inr ⟨a1, x1.is a2, ?_, ?_, ?_, ?_, ?_⟩⟩
    · rw [rd_I_sQ, rd_I_sI, if_pos ⟨rfl, rfl⟩, ls_del_len hi]
    · rw [rd_R_sQ, rd_R_sI, e5]; exact h4
    · show _ ≤ gc_n σ1 r'
      rw [e4, ls_del_len hi]; omega
    · show gc_n σ1 r' ≤ _
      rw [e4]; exact a4
    · show _ ≤ gc_n σ1 r'
      rw [e4]; exact a5
    · intro j hj
      rw [ls_del_len hi] at hj
      rw [rd_Q_sQ, if_neg (by omega)]
      exact e6 j hj
    · intro j y hy
      rw [rd_Q_sQ] at hy
      split at hy
      · exact absurd hy (by simp)
      · exact e7 j y hy
  have hx0 : cx θ (cLs σ ow o) σ (gc_sI σ 1200 a (gc_I σ 1200 a + 1)) := (cx_sI σ 1200 a _).mono (fun b _ e => by rw [e]; exact ⟨h2.1, h1, Or.inl h2.2⟩)
  refine ⟨h2, pl_le (fun c => ?_) (fun c => ?_)⟩
  · refine fin _ _ _ hx0 rfl rfl rfl rfl (fun j hj => ?_) (fun j y hy => a7 j y hy)
    rw [ls_del_get hi, if_pos (by omega)]
    exact a6 j (by omega)
  · rw [nI_1, pk_sub (by omega), nI_clamp (by omega), nI_clamp (by omega), nI_clamp (by omega)]
    refine ⟨r', rfl, ⟨a2, a2, nI_pos (by omega), nI_pos (by omega), nI_pos (by omega), ?_, ?_⟩, fun j hj y hy => a7 _ y hy, ?_⟩
    · show _ ≤ gc_n σ r'
      omega
    · show _ ≤ gc_n σ r'
      omega
    · rintro _ rfl
      refine fin _ _ _ (hx0.trans (cx_cQ (gc_sI σ 1200 a (gc_I σ 1200 a + 1)) r' r' (i + 1) i (ch.length - 1 - i)) (fun b hb => by subst hb; exact Or.inl ⟨a2.1, a1, Or.inr a2.2⟩)) rfl rfl rfl rfl (fun j hj => ?_) (fun j y hy => ?_)
      · rw [rd_Q_cQ, ls_del_get hi]
        by_cases c1 : j < i
        · rw [if_neg (by omega), if_pos c1]; exact a6 j (by omega)
        · rw [if_pos ⟨rfl, by omega, by omega⟩, if_neg c1, show i + 1 + (j - i) = j + 1 by omega]
          exact a6 (j + 1) (by omega)
      · rw [rd_Q_cQ] at hy
        split at hy
        · exact a7 _ y hy
        · exact a7 j y hy
theorem kc_remove {ow : Nat → Nat} {o a i : Nat} {ch : List Nat} {x : Int32} (hl : cL θ σ ow o a ch) (hi : i < ch.length) (k : ∀ σ', gc_d σ' = gc_d σ → cx θ (cLs σ ow o) σ σ' → cL θ σ' ow o a (ls_del ch i) → R (some (ch.getD i 0)) σ')
    (hx : x = nI i := by rfl) (hn : 3 ≤ n := by omega) : gx_C (gc_O θ) (nJ5_remove n) [.ref a, .int x] σ (gc_Pr R) := by
  subst hx
  obtain ⟨n, rfl⟩ : ∃ k, n = k + 1 := ⟨n - 1, by omega⟩
  have hl0 := hl
  have hlen := hl.len
  obtain ⟨h1, h2, h3, r', h4, h5⟩ := hl
  obtain ⟨a1, a2, a3, a4, a5, a6, a7⟩ : ow r' = o ∧ gc_is σ r' 20 ∧ ch.length ≤ gc_n σ r' ∧ gc_n σ r' ≤ 60 ∧ 10 ≤ gc_n σ r' ∧ (∀ j, j < ch.length → gc_Q σ r' j = some (ch.getD j 0)) ∧ ∀ j y, gc_Q σ r' j = some y → gc_isV θ σ y := by
    rcases h5 with h5 | h5
    · rw [h5.2.2] at hi; exact absurd hi (Nat.not_lt_zero _)
    · exact h5
  refine ec_J5_remove (fun K h => bc_J5_remove_0 h ⟨h2, ?_⟩)
  rw [h3]
  refine kc_checkIndex hi (by omega) ⟨h2, r', h4, a2, vp_in_nI (by omega) (by omega), h2, ?_⟩
  rw [h4, nI_clamp (by omega), a6 i hi]
  exact kc_fastRemove hl0 h4 hi k
theorem kc_indexOf {ow : Nat → Nat} {o a i v : Nat} {ch : List Nat} (hl : cL θ σ ow o a ch) (hv : gc_isN σ v) (hi : i < ch.length) (he : ch.getD i 0 = v) (hne : ∀ j, j < i → ch.getD j 0 ≠ v) (k : P (nI i) σ) (hn : 2 ≤ n := by omega) : gx_C (gc_O θ) (nJ5_indexOf n) [.ref a, .ref v] σ (gc_Pi P) := by
  obtain ⟨n, rfl⟩ : ∃ k, n = k + 2 := ⟨n - 2, by omega⟩
  have hlen := hl.len
  obtain ⟨h1, h2, h3, r', h4, h5⟩ := hl
  obtain ⟨a1, a2, a3, a4, a5, a6, a7⟩ : ow r' = o ∧ gc_is σ r' 20 ∧ ch.length ≤ gc_n σ r' ∧ gc_n σ r' ≤ 60 ∧ 10 ≤ gc_n σ r' ∧ (∀ j, j < ch.length → gc_Q σ r' j = some (ch.getD j 0)) ∧ ∀ j y, gc_Q σ r' j = some y → gc_isV θ σ y := by
    rcases h5 with h5 | h5
    · rw [h5.2.2] at hi; exact absurd hi (Nat.not_lt_zero _)
    · exact h5
  refine ec_J5_indexOf (x1 := some v) (fun K h => bc_J5_indexOf_0 h ⟨h2, h2, ?_⟩)
  rw [h3]
  refine ec_J5_indexOfRange (x1 := some v) (fun K h => bc_J5_indexOfRange_0 h ⟨h2, fun c => absurd c (by simp), fun _ => ?_⟩)
  rw [h4]
  have key : ∀ m j, j + m = i → gc_G θ K (nJ5_indexOfRange (n + 1)) (gc_Pi (fun r7 σ7 => P r7 σ7)) 42 [(1, va_rf (some v)), (3, .int (nI ch.length)), (4, va_rf (some r')), (5, .int (nI j))] [] σ 0 0 := by
    intro m
    induction m with
    | zero =>
      intro j hj
      refine bc_J5_indexOfRange_42 h (pl_le (fun c => by omega) (fun _ => ⟨r', rfl, a2, vp_in_nI (by omega) (by omega), v, rfl, hv, ?_⟩))
      rw [nI_clamp (by omega), a6 j (by omega), show j = i by omega, he, if_pos rfl]
      exact ⟨fun c => absurd c (by decide), fun _ => k⟩
    | succ m ih =>
      intro j hj
      refine bc_J5_indexOfRange_42 h (pl_le (fun c => by omega) (fun _ => ⟨r', rfl, a2, vp_in_nI (by omega) (by omega), v, rfl, hv, ?_⟩))
      rw [nI_clamp (by omega), a6 j (by omega), if_neg (fun z => hne j (by omega) (Option.some.inj z)), nI_1]
      exact ⟨fun _ => ih (j + 1) (by omega), fun c => absurd rfl c⟩
  exact key i 0 (by omega)
theorem kc_removeO {ow : Nat → Nat} {o a i v : Nat} {ch : List Nat} (hl : cL θ σ ow o a ch) (hv : gc_isN σ v) (hi : i < ch.length) (he : ch.getD i 0 = v) (hne : ∀ j, j < i → ch.getD j 0 ≠ v) (k : ∀ σ', gc_d σ' = gc_d σ → cx θ (cLs σ ow o) σ σ' → cL θ σ' ow o a (ls_del ch i) → P 1 σ') (hn : 2 ≤ n := by omega) : gx_C (gc_O θ) (nJ5_remove_2 n) [.ref a, .ref v] σ (gc_Pi P) := by
  obtain ⟨n, rfl⟩ : ∃ k, n = k + 1 := ⟨n - 1, by omega⟩
  have hlen := hl.len
  have hl0 := hl
  obtain ⟨h1, h2, h3, r', h4, h5⟩ := hl
  obtain ⟨a1, a2, a3, a4, a5, a6, a7⟩ : ow r' = o ∧ gc_is σ r' 20 ∧ ch.length ≤ gc_n σ r' ∧ gc_n σ r' ≤ 60 ∧ 10 ≤ gc_n σ r' ∧ (∀ j, j < ch.length → gc_Q σ r' j = some (ch.getD j 0)) ∧ ∀ j y, gc_Q σ r' j = some y → gc_isV θ σ y := by
    rcases h5 with h5 | h5
    · rw [h5.2.2] at hi; exact absurd hi (Nat.not_lt_zero _)
    · exact h5
  refine ec_J5_remove_2 (x1 := some v) (fun K h => bc_J5_remove_2_0 h ⟨h2, h2, fun c => absurd c (by simp), fun _ => ?_⟩)
  rw [h4, h3]
  have key : ∀ m j, j + m = i → gc_G θ K (nJ5_remove_2 (n + 1)) (gc_Pi P) 39 [(0, va_rf (some a)), (1, va_rf (some v)), (2, va_rf (some r')), (3, .int (nI ch.length)), (4, .int (nI j))] [] σ 0 0 := by
    intro m
    induction m with
    | zero =>
      intro j hj
      refine bc_J5_remove_2_39 h (pl_le (fun c => by omega) (fun _ => ⟨r', rfl, a2, vp_in_nI (by omega) (by omega), v, rfl, hv, ?_⟩))
      rw [nI_clamp (by omega), a6 j (by omega), show j = i by omega, he, if_pos rfl]
      exact ⟨fun c => absurd c (by decide), fun _ => bc_J5_remove_2_67 h ⟨h2, kc_fastRemove hl0 h4 hi k⟩⟩
    | succ m ih =>
      intro j hj
      refine bc_J5_remove_2_39 h (pl_le (fun c => by omega) (fun _ => ⟨r', rfl, a2, vp_in_nI (by omega) (by omega), v, rfl, hv, ?_⟩))
      rw [nI_clamp (by omega), a6 j (by omega), if_neg (fun z => hne j (by omega) (Option.some.inj z)), nI_1]
      exact ⟨fun _ => ih (j + 1) (by omega), fun c => absurd rfl c⟩
  exact key i 0 (by omega)
end CL
