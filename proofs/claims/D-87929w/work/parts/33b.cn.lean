/-! nodes are made, nodes get children -/
section CN
variable {θ : gc_T} {P : Int32 → gc_S → Prop} {V : gc_S → Prop} {R : Option Nat → gc_S → Prop} {σ : gc_S} {n cc ss : Nat}
theorem kc_init9 {q : Nat} {x1 : Int32} {x2 x3 : Option Nat} (hq : gc_isN σ q) (hθ : cTh θ) (h0 : gc_n σ (gc_aD θ) = 0)
    (k : ∀ σ' c, c ∉ gc_d σ → gc_A θ c → gc_d σ' = gc_d σ ++ [c] → cx θ (· = q) σ σ' → (∀ ow : Nat → Nat, ow c = q → cL θ σ' ow q c []) → gc_R σ' 804 q = some c → gc_I σ' 800 q = x1 → gc_R σ' 801 q = x2 → gc_R σ' 802 q = x3 → gc_R σ' 803 q = gc_R σ 803 q → V σ')
    (hn : 4 ≤ n := by omega) (hc : 1 ≤ cc := by omega) (hs : 3 ≤ ss := by omega) : gx_C (gc_O θ) (nX9_init n cc ss) [.ref q, .int x1, va_rf x2, va_rf x3] σ (gc_Pv V) := by
  obtain ⟨n, rfl⟩ : ∃ k, n = k + 4 := ⟨n - 4, by omega⟩
  refine ec_X9_init (fun K h => bc_X9_init_0 h ⟨hc, hs, ?_⟩)
  rintro c hcd hA _ rfl
  have hqc : q ≠ c := fun z => hcd (z ▸ hq.1)
  have hcD : gc_aD θ ≠ c := fun z => hθ.2 (z ▸ hA)
  have y0 := cx_new (θ := θ) (S := (· = q)) σ 12 0 hcd hA
  have ic : gc_is (gc_new σ c 12 0) c 12 := ⟨List.mem_append_right _ (List.mem_singleton_self c), by rw [rd_k_new, if_pos rfl]⟩
  refine ec_J5_init (fun K h => bc_J5_init_0 h (ec_J4_init (fun K h => bc_J4_init_0 h (ec_J3_init (fun K h => bc_J3_init_0 h ⟨ic, ?_⟩)))))
  rintro _ rfl
  refine ⟨ic, ?_⟩
  rintro _ rfl
  have iq := y0.isN hq
  refine ⟨iq, ?_⟩
  rintro _ rfl
  refine ⟨iq, ?_⟩
  rintro _ rfl
  refine ⟨iq, ?_⟩
  rintro _ rfl
  refine ⟨iq, ?_⟩
  rintro _ rfl
  have fr : ∀ a, a = c → (a = q) ∨ (a ∉ gc_d σ ∧ gc_A θ a) := fun a e => Or.inr (e ▸ ⟨hcd, hA⟩)
  have y1 := ((((((y0.trans (cx_sI _ 1200 c 0) fr).trans (cx_sR _ 1201 c (some (gc_aD θ))) fr).trans' (cx_sR _ 804 q (some c))).trans' (cx_sI _ 800 q x1)).trans' (cx_sR _ 801 q x2)).trans' (cx_sR _ 802 q x3))
  refine k _ c hcd hA rfl y1 (fun ow how => ⟨how, ic, ?_, gc_aD θ, ?_, Or.inl ⟨rfl, ?_, rfl⟩⟩) ?_ ?_ ?_ ?_ ?_
  · rw [rd_I_sR, rd_I_sR, rd_I_sI, if_neg (by simp), rd_I_sR, rd_I_sR, rd_I_sI, if_neg (by simp), rd_I_new, if_pos rfl]; rfl
  · rw [rd_R_sR, if_neg (by simp), rd_R_sR, if_neg (by simp), rd_R_sI, rd_R_sR, if_neg (by simp), rd_R_sR, if_pos ⟨rfl, rfl⟩]
  · show gc_n (gc_new σ c 12 0) (gc_aD θ) = 0
    rw [rd_n_new, if_neg hcD]; exact h0
  · rw [rd_R_sR, if_neg (by simp), rd_R_sR, if_neg (by simp), rd_R_sI, rd_R_sR, if_pos ⟨rfl, rfl⟩]
  · rw [rd_I_sR, rd_I_sR, rd_I_sI, if_pos ⟨rfl, rfl⟩]
  · rw [rd_R_sR, if_neg (by simp), rd_R_sR, if_pos ⟨rfl, rfl⟩]
  · rw [rd_R_sR, if_pos ⟨rfl, rfl⟩]
  · rw [rd_R_sR, if_neg (by simp), rd_R_sR, if_neg (by simp), rd_R_sI, rd_R_sR, if_neg (by simp), rd_R_sR, if_neg (by simp), rd_R_sI, rd_R_new, if_neg hqc]
/-- a node without children is made -/
theorem kc_made {ow : Nat → Nat} {L : Nat → Prop} {x0 x1 : Int32} {a b : Nat} {r : rw_} (hθ : cTh θ) (h0 : gc_n σ (gc_aD θ) = 0) (hoc : oc σ ow) (hk : rw_k r ≤ 3) (ha : cB θ σ L a (rw_l r)) (hb : cB θ σ L b (rw_t r)) (e0 : x0 = nI (rw_k r)) (e1 : x1 = nI (rw_a r))
    (k : ∀ σ' ow' q, q ∉ gc_d σ → gc_A θ q → cx θ (fun _ => False) σ σ' → (∀ x, x ∈ gc_d σ → ow' x = ow x) → oc σ' ow' → cN θ σ' ow' L q r [] → gc_R σ' 803 q = none → R (some q) σ')
    (hn : 8 ≤ n := by omega) (hc : 2 ≤ cc := by omega) (hs : 13 ≤ ss := by omega) : gx_C (gc_O θ) (nX0_made n cc ss) [.int x0, .int x1, .ref a, .ref b] σ (gc_Pr R) := by
  subst e0 e1
  obtain ⟨n, rfl⟩ : ∃ k, n = k + 8 := ⟨n - 8, by omega⟩
  have main : ∀ (n c s : Nat), 4 ≤ n → 1 ≤ c → 3 ≤ s → ∀ q, q ∉ gc_d σ → gc_A θ q → gx_C (gc_O θ) (nX9_init n c s) [.ref q, .int (nI (rw_a r)), .ref a, .ref b] (gc_new σ q (8 + rw_k r) 0) (gc_Pv (fun σ' => R (some q) σ')) := by
    intro n c s g1 g2 g3 q hq hA
    have hDq : gc_aD θ ≠ q := fun z => hθ.2 (z ▸ hA)
    have y0 := cx_new (θ := θ) (S := fun _ => False) σ (8 + rw_k r) 0 hq hA
    have hdq : q ∈ gc_d (gc_new σ q (8 + rw_k r) 0) := List.mem_append_right _ (List.mem_singleton_self q)
    have hkq : gc_k (gc_new σ q (8 + rw_k r) 0) q = 8 + rw_k r := by rw [rd_k_new, if_pos rfl]
    refine kc_init9 (x2 := some a) (x3 := some b) ⟨hdq, by rw [hkq]; omega⟩ hθ (by rw [rd_n_new, if_neg hDq]; exact h0) (fun σ' cl c1 c2 c3 c4 c5 c6 c7 c8 c9 c10 => ?_) g1 g2 g3
    have hcl : cl ∉ gc_d σ := fun z => c1 (y0.1 _ z)
    have hcq : cl ≠ q := fun z => c1 (z ▸ hdq)
    have y1 := y0.trans c4 (fun x e => Or.inr (e ▸ ⟨hq, hA⟩))
    refine k σ' (fun x => if x = q ∨ x = cl then q else ow x) q hq hA y1 (fun x hx => if_neg (fun z : x = q ∨ x = cl => z.elim (fun z => hq (z ▸ hx)) (fun z => hcl (z ▸ hx)))) ?_ ⟨if_pos (Or.inl rfl), c4.1 q hdq, ?_, hk, c7, ⟨a, c8, ?_⟩, ⟨b, c9, ?_⟩, cl, c6, c5 _ (if_pos (Or.inr rfl))⟩ ?_
    · intro x hx
      rw [c3, rd_d_new, List.mem_append, List.mem_append, List.mem_singleton, List.mem_singleton] at hx ⊢
      by_cases e : x = q ∨ x = cl
      · show ((if x = q ∨ x = cl then q else ow x) ∈ gc_d σ ∨ (if x = q ∨ x = cl then q else ow x) = q) ∨ (if x = q ∨ x = cl then q else ow x) = cl
        rw [if_pos e]; exact Or.inl (Or.inr rfl)
      · show ((if x = q ∨ x = cl then q else ow x) ∈ gc_d σ ∨ (if x = q ∨ x = cl then q else ow x) = q) ∨ (if x = q ∨ x = cl then q else ow x) = cl
        rw [if_neg e]
        exact Or.inl (Or.inl (hoc x ((hx.resolve_right (fun z => e (Or.inr z))).resolve_right (fun z => e (Or.inl z)))))
    · rw [(c4.2.2.1 q (Or.inl hdq)).1]; exact hkq
    · exact ha.cx hθ y1 (fun _ z => z.elim)
    · exact hb.cx hθ y1 (fun _ z => z.elim)
    · rw [c10, rd_R_new, if_pos rfl]
  refine ec_X0_made (x2 := some a) (x3 := some b) (fun K h => bc_X0_made_0 h ⟨fun e => ⟨by omega, by omega, ?_⟩, fun e => ⟨by omega, by omega, ?_⟩, fun e => ⟨by omega, by omega, ?_⟩, fun e e' e'' => ⟨by omega, by omega, ?_⟩⟩)
  · have e : nI (rw_k r) = nI 0 := e
    rw [nI_eq (by omega) (by omega)] at e
    rintro q hq hA _ rfl
    refine ⟨cc - 1, ss - 10, ⟨Nat.le_refl _, Nat.le_refl _⟩, ec_X10_init (x2 := some a) (x3 := some b) (fun K h => bc_X10_init_0 h ⟨_, _, ⟨Nat.le_refl _, Nat.le_refl _⟩, ?_⟩)⟩
    have := main (n + 6) (cc - 1) (ss - 10) (by omega) (by omega) (by omega) q hq hA
    rw [e] at this
    exact this
  · have e : nI (rw_k r) = nI 1 := e
    rw [nI_eq (by omega) (by omega)] at e
    rintro q hq hA _ rfl
    refine ⟨cc - 1, ss - 10, ⟨Nat.le_refl _, Nat.le_refl _⟩, ec_X11_init (x2 := some a) (x3 := some b) (fun K h => bc_X11_init_0 h ⟨_, _, ⟨Nat.le_refl _, Nat.le_refl _⟩, ec_X10_init (x2 := some a) (x3 := some b) (fun K h => bc_X10_init_0 h ⟨_, _, ⟨Nat.le_refl _, Nat.le_refl _⟩, ?_⟩)⟩)⟩
    have := main (n + 5) (cc - 1) (ss - 10) (by omega) (by omega) (by omega) q hq hA
    rw [e] at this
    exact this
  · have e : nI (rw_k r) = nI 2 := e
    rw [nI_eq (by omega) (by omega)] at e
    rintro q hq hA _ rfl
    refine ⟨cc - 1, ss - 10, ⟨Nat.le_refl _, Nat.le_refl _⟩, ec_X12_init (x2 := some a) (x3 := some b) (fun K h => bc_X12_init_0 h ⟨_, _, ⟨Nat.le_refl _, Nat.le_refl _⟩, ec_X11_init (x2 := some a) (x3 := some b) (fun K h => bc_X11_init_0 h ⟨_, _, ⟨Nat.le_refl _, Nat.le_refl _⟩, ec_X10_init (x2 := some a) (x3 := some b) (fun K h => bc_X10_init_0 h ⟨_, _, ⟨Nat.le_refl _, Nat.le_refl _⟩, ?_⟩)⟩)⟩)⟩
    have := main (n + 4) (cc - 1) (ss - 10) (by omega) (by omega) (by omega) q hq hA
    rw [e] at this
    exact this
  · have e : ¬ nI (rw_k r) = nI 0 := e
    have e' : ¬ nI (rw_k r) = nI 1 := e'
    have e'' : ¬ nI (rw_k r) = nI 2 := e''
    rw [nI_eq (by omega) (by omega)] at e e' e''
    have e3 : rw_k r = 3 := by omega
    rintro q hq hA _ rfl
    refine ⟨cc - 1, ss - 10, ⟨Nat.le_refl _, Nat.le_refl _⟩, ec_X13_init (x2 := some a) (x3 := some b) (fun K h => bc_X13_init_0 h ⟨_, _, ⟨Nat.le_refl _, Nat.le_refl _⟩, ?_⟩)⟩
    have := main (n + 6) (cc - 1) (ss - 10) (by omega) (by omega) (by omega) q hq hA
    rw [e3] at this
    exact this
theorem cN_of {ow ow' : Nat → Nat} {L : Nat → Prop} {a c : Nat} {r : rw_} {ch ch' : List Nat} {σ' : gc_S} {S : Nat → Prop} (h : cN θ σ ow L a r ch) (hθ : cTh θ) (k : cx θ S σ σ') (hSa : ¬ S a) (hS : ∀ q, S q → gc_k σ q ≠ 15) (hw : ow' a = a) (hc : gc_R σ 804 a = some c) (hl : cL θ σ' ow' a c ch') : cN θ σ' ow' L a r ch' := by
  obtain ⟨h1, h2, h3, h4, h5, ⟨b1, h6, h7⟩, ⟨b2, h8, h9⟩, c', h10, h11⟩ := h
  have hs : cs_ σ σ' a := k.2.2.2 a (Or.inl h2) hSa
  exact ⟨hw, k.1 a h2, by rw [hs.1]; exact h3, h4, by rw [hs.2.2.2.2.1 800 (by decide)]; exact h5, ⟨b1, by rw [hs.2.2.2.2.2]; exact h6, h7.cx hθ k (fun q z y => absurd y (hS q z))⟩, ⟨b2, by rw [hs.2.2.2.2.2]; exact h8, h9.cx hθ k (fun q z y => absurd y (hS q z))⟩, c, by rw [hs.2.2.2.2.2]; exact hc, hl⟩
theorem kc_nadd {ow : Nat → Nat} {L : Nat → Prop} {a v : Nat} {r : rw_} {ch : List Nat} (hθ : cTh θ) (hoc : oc σ ow) (h : cN θ σ ow L a r ch) (hv : gc_isN σ v) (h40 : ch.length ≤ 40)
    (k : ∀ σ1 ow', (∀ x, x ∈ gc_d σ → ow' x = ow x) → oc σ1 ow' → cx θ (cLs σ ow a) σ σ1 → cN θ σ1 ow' L a r (ch ++ [v]) → V (gc_sR σ1 803 v (some a)))
    (hn : 7 ≤ n := by omega) (hc : 1 ≤ cc := by omega) (hs : 60 ≤ ss := by omega) : vC_add θ n cc ss σ a [.ref v] (gc_Pv V) := by
  obtain ⟨n, rfl⟩ : ∃ k, n = k + 1 := ⟨n - 1, by omega⟩
  have main : gx_C (gc_O θ) (nX9_add (n + 1) cc ss) [.ref a, .ref v] σ (gc_Pv V) := by
    obtain ⟨c, h10, h11⟩ := h.2.2.2.2.2.2.2
    refine ec_X9_add (x1 := some v) (fun K hK => bc_X9_add_0 hK ⟨h.isN, c, h10, cc, ss, ⟨Nat.le_refl _, Nat.le_refl _⟩, h11.2.1, kc_add hθ hoc h11 h40 (Or.inl hv) (fun σ1 ow' e1 e0 e2 e3 => ⟨v, rfl, e2.isN hv, ?_⟩)⟩)
    rintro _ rfl
    have hk := h.isN.2
    exact k σ1 ow' e1 e0 e2 (cN_of h hθ e2 (fun z => by have := z.2.2; omega) (fun q z y => by have := z.2.2; omega) (by rw [e1 a h.2.1]; exact h.1) h10 e3)
  exact ⟨fun _ => main, fun _ => main, fun _ => main, fun _ => main⟩
theorem kc_naddAt {ow : Nat → Nat} {L : Nat → Prop} {a v i : Nat} {x : Int32} {r : rw_} {ch : List Nat} (hθ : cTh θ) (hoc : oc σ ow) (h : cN θ σ ow L a r ch) (hv : gc_isN σ v) (h40 : ch.length ≤ 40) (hi : i ≤ ch.length)
    (k : ∀ σ1 ow', (∀ x, x ∈ gc_d σ → ow' x = ow x) → oc σ1 ow' → cx θ (cLs σ ow a) σ σ1 → cN θ σ1 ow' L a r (ls_ins ch i v) → V (gc_sR σ1 803 v (some a)))
    (hx : x = nI i := by rfl) (hn : 7 ≤ n := by omega) (hc : 1 ≤ cc := by omega) (hs : 60 ≤ ss := by omega) : vC_add_2 θ n cc ss σ a [.int x, .ref v] (gc_Pv V) := by
  obtain ⟨n, rfl⟩ : ∃ k, n = k + 1 := ⟨n - 1, by omega⟩
  have main : gx_C (gc_O θ) (nX9_add_2 (n + 1) cc ss) [.ref a, .int x, .ref v] σ (gc_Pv V) := by
    obtain ⟨c, h10, h11⟩ := h.2.2.2.2.2.2.2
    refine ec_X9_add_2 (x2 := some v) (fun K hK => bc_X9_add_2_0 hK ⟨h.isN, c, h10, cc, ss, ⟨Nat.le_refl _, Nat.le_refl _⟩, h11.2.1, kc_addAt hθ hoc h11 h40 (Or.inl hv) hi (fun σ1 ow' e1 e0 e2 e3 => ⟨v, rfl, e2.isN hv, ?_⟩) hx⟩)
    rintro _ rfl
    have hk := h.isN.2
    exact k σ1 ow' e1 e0 e2 (cN_of h hθ e2 (fun z => by have := z.2.2; omega) (fun q z y => by have := z.2.2; omega) (by rw [e1 a h.2.1]; exact h.1) h10 e3)
  exact ⟨fun _ => main, fun _ => main, fun _ => main, fun _ => main⟩
end CN
