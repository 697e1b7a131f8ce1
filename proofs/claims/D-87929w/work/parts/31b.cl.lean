/-! lists: add, add at a place, remove -/
theorem ls_app_lt {a b : List Nat} {j : Nat} (h : j < a.length) : (a ++ b).getD j 0 = a.getD j 0 := by
  rw [List.getD_eq_getElem?_getD, List.getD_eq_getElem?_getD, List.getElem?_append_left h]
theorem ls_app_ge {a b : List Nat} {j : Nat} (h : a.length ≤ j) : (a ++ b).getD j 0 = b.getD (j - a.length) 0 := by
  rw [List.getD_eq_getElem?_getD, List.getD_eq_getElem?_getD, List.getElem?_append_right h]
/-- cells of one owner, of lists -/
abbrev cLs (σ : gc_S) (ow : Nat → Nat) (o : Nat) : Nat → Prop := fun q => q ∈ gc_d σ ∧ ow q = o ∧ (gc_k σ q = 12 ∨ gc_k σ q = 20)
section CL
variable {θ : gc_T} {P : Int32 → gc_S → Prop} {V : gc_S → Prop} {R : Option Nat → gc_S → Prop} {σ : gc_S} {n cc ss : Nat}
theorem kc_add {ow : Nat → Nat} {o a v : Nat} {ch : List Nat} (hθ : cTh θ) (hoc : oc σ ow) (hl : cL θ σ ow o a ch) (h40 : ch.length ≤ 40) (hv : gc_isV θ σ v)
    (k : ∀ σ' ow', (∀ x, x ∈ gc_d σ → ow' x = ow x) → oc σ' ow' → cx θ (cLs σ ow o) σ σ' → cL θ σ' ow' o a (ch ++ [v]) → P 1 σ')
    (hn : 6 ≤ n := by omega) (hc : 1 ≤ cc := by omega) (hs : 60 ≤ ss := by omega) : gx_C (gc_O θ) (nJ5_add n cc ss) [.ref a, .ref v] σ (gc_Pi P) := by
  obtain ⟨n, rfl⟩ : ∃ k, n = k + 2 := ⟨n - 2, by omega⟩
  have hl0 := hl
  obtain ⟨h1, h2, h3, r, h4, h5⟩ := hl
  refine ec_J5_add (x1 := some v) (fun K h => bc_J5_add_0 h ⟨h2, h2, ?_⟩)
  rintro _ rfl
  have hx0 : cx θ (cLs σ ow o) σ (gc_sI σ 1200 a (gc_I σ 1200 a + 1)) := (cx_sI σ 1200 a _).mono (fun b _ e => by rw [e]; exact ⟨h2.1, h1, Or.inl h2.2⟩)
  have hl1 : cL θ (gc_sI σ 1200 a (gc_I σ 1200 a + 1)) ow o a ch := ⟨h1, h2, by rw [rd_I_sI, if_neg (by simp)]; exact h3, r, h4, h5⟩
  have hdτ : gc_d (gc_sI σ 1200 a (gc_I σ 1200 a + 1)) = gc_d σ := rfl
  have hoσ : o ∈ gc_d σ := by have := hoc a h2.1; rw [h1] at this; exact this
  generalize gc_sI σ 1200 a (gc_I σ 1200 a + 1) = τ at hx0 hl1 hdτ
  obtain ⟨_, t2, t3, r', t4, t5⟩ := hl1
  refine ⟨t2, t2, cc, ss, ⟨Nat.le_refl _, Nat.le_refl _⟩, t2, ?_⟩
  rw [t4, t3]
  have fin : ∀ (σ1 : gc_S) (q : Nat) (ow' : Nat → Nat) (K : gx_K) (bc bs : Nat), gc_K θ K (nJ5_add_2 (n + 1) cc ss) → (∀ x, x ∈ gc_d σ → ow' x = ow x) → oc σ1 ow' → cx θ (cLs σ ow o) σ σ1 → ow' q = o → (q ∈ gc_d σ → ow q = o) → gc_is σ1 q 20 → ch.length < gc_n σ1 q → gc_n σ1 q ≤ 60 → 10 ≤ gc_n σ1 q → gc_R σ1 1201 a = some q → (∀ j, j < ch.length → gc_Q σ1 q j = some (ch.getD j 0)) → (∀ j y, gc_Q σ1 q j = some y → gc_isV θ σ1 y) →
      gc_G θ K (nJ5_add_2 (n + 1) cc ss) (gc_Pv (fun σ20 => P 1 σ20)) 11 [(0, va_rf (some a)), (1, va_rf (some v)), (2, va_rf (some q)), (3, .int (nI ch.length))] [] σ1 bc bs := by
    intro σ1 q ow' K bc bs h e1 e0 e2 e3 e3' e4 e5 e6 e7 e8 e9 e10
    refine bc_J5_add_2_11 h ⟨q, rfl, e4, vp_in_nI e5 (by omega), fun w hw => by obtain rfl := Option.some.inj hw; exact e2.isV hv, ?_⟩
    rintro _ rfl
    rw [nI_clamp (by omega)]
    refine ⟨e2.is h2, ?_⟩
    rintro _ rfl
    rw [nI_1]
    have hqa : q ≠ a := fun z => by
      have := (e2.is h2).2
      rw [← z, e4.2] at this
      omega
    have x1 : cx θ (cLs σ ow o) σ (gc_sQ σ1 q ch.length (some v)) := e2.trans (cx_sQ σ1 q ch.length (some v)) (fun b hb => by
      subst hb
      by_cases c : b ∈ gc_d σ
      · exact Or.inl ⟨c, e3' c, Or.inr (by rw [← (e2.2.2.1 b (Or.inl c)).1]; exact e4.2)⟩
      · exact Or.inr ⟨c, (e2.2.1 b e4.1).resolve_left c⟩)
    have x2 := x1.trans (cx_sI (gc_sQ σ1 q ch.length (some v)) 1202 a (nI (ch.length + 1))) (fun b hb => by subst hb; exact Or.inl ⟨h2.1, h1, Or.inl h2.2⟩)
    refine k _ ow' e1 (e0.same rfl) x2 ⟨by rw [e1 a h2.1]; exact h1, x2.is h2, ?_, q, e8, Or.inr ⟨e3, e4, ?_, e6, e7, ?_, ?_⟩⟩
    · rw [rd_I_sI, if_pos ⟨rfl, rfl⟩, List.length_append]; rfl
    · rw [List.length_append]; exact e5
    · intro j hj
      rw [List.length_append, List.length_singleton] at hj
      rw [rd_Q_sI, rd_Q_sQ]
      by_cases z : j = ch.length
      · subst z
        rw [if_pos ⟨rfl, rfl⟩, ls_app_ge (Nat.le_refl _), Nat.sub_self]
        rfl
      · rw [if_neg (fun y => z y.2), e9 j (by omega), ls_app_lt (by omega)]
    · intro j y hy
      rw [rd_Q_sI, rd_Q_sQ] at hy
      split at hy
      · obtain rfl := Option.some.inj hy
        exact x2.isV hv
      · exact e10 j y hy
  refine ec_J5_add_2 (x1 := some v) (x2 := some r') (fun K h => bc_J5_add_2_0 h ⟨r', rfl, ?_, ?_⟩)
  · rcases t5 with t5 | t5
    · exact Or.inr ⟨t5.1, t5.2.1⟩
    · exact Or.inl t5.2.1
  · have hl1 : cL θ τ ow o a ch := ⟨h1, t2, t3, r', t4, t5⟩
    refine ⟨fun c => ⟨cc, ss, ⟨Nat.le_refl _, Nat.le_refl _⟩, t2, ?_⟩, fun c => ?_⟩
    · have hle : gc_n τ r' ≤ 60 := by
        rcases t5 with t5 | t5
        · omega
        · exact t5.2.2.2.1
      have c' : nI ch.length = nI (gc_n τ r') := c
      rw [nI_eq (by omega) (by omega)] at c'
      refine kc_grow hθ hl1 h40 t4 c'.symm (fun σ1 q q1 q2 q3 q4 q5 q6 q7 q8 q9 q10 q11 q12 q13 => ?_)
      have hqσ : q ∉ gc_d σ := fun z => q1 (hx0.1 q z)
      have hx1 : cx θ (cLs σ ow o) σ σ1 := hx0.trans q4 (fun b hb => by subst hb; exact Or.inl ⟨h2.1, h1, Or.inl h2.2⟩)
      refine fin σ1 q (fun x => if x = q then o else ow x) K _ _ h (fun x hx => if_neg (fun z : x = q => hqσ (z ▸ hx))) ((hoc.same hdτ).new q3 (Or.inl (by rw [hdτ]; exact hoσ))) hx1 (if_pos rfl) (fun z => absurd z hqσ) q5 q6 q7 q8 q9 q12 q13
    · rcases t5 with t5 | ⟨a1, a2, a3, a4, a5, a6, a7⟩
      · exact absurd (by rw [t5.2.1, t5.2.2]; rfl) c
      · have c' : ¬ nI ch.length = nI (gc_n τ r') := c
        rw [nI_eq (by omega) (by omega)] at c'
        exact fin τ r' ow K _ _ h (fun _ _ => rfl) (hoc.same hdτ) hx0 a1 (fun _ => a1) a2 (by omega) a4 a5 t4 a6 a7
end CL
