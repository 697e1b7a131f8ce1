/-! lists and rows of bytes: the component's smallest methods -/
section CL
variable {θ : gc_T} {P : Int32 → gc_S → Prop} {V : gc_S → Prop} {R : Option Nat → gc_S → Prop} {σ : gc_S} {n cc ss : Nat}
theorem kc_size {ow : Nat → Nat} {o a : Nat} {ch : List Nat} (hl : cL θ σ ow o a ch) (k : P (nI ch.length) σ) : gx_C (gc_O θ) (nJ5_size n) [.ref a] σ (gc_Pi P) :=
  ec_J5_size (fun K h => bc_J5_size_0 h ⟨hl.2.1, by rw [hl.2.2.1]; exact k⟩)
theorem kc_checkIndex {i m : Nat} (hi : i < m) (hm : m < 2 ^ 31) (k : P (nI i) σ) (hn : 2 ≤ n := by omega) : gx_C (gc_O θ) (nJ6_checkIndex n) [.int (nI i), .int (nI m)] σ (gc_Pi P) := by
  obtain ⟨n, rfl⟩ : ∃ k, n = k + 2 := ⟨n - 2, by omega⟩
  refine ec_J6_checkIndex (fun K h => bc_J6_checkIndex_0 h (ec_J7_checkIndex (x2 := none) (fun K h => bc_J7_checkIndex_0 h ?_)))
  refine ⟨fun c => absurd c (nI_pos (by omega)), fun _ => pl_lt (fun _ => k) (fun c => by omega)⟩
theorem kc_get {ow : Nat → Nat} {o a : Nat} {ch : List Nat} {x : Int32} (hl : cL θ σ ow o a ch) (i : Nat) (hi : i < ch.length) (k : R (some (ch.getD i 0)) σ) (hx : x = nI i := by rfl) (hn : 3 ≤ n := by omega) : gx_C (gc_O θ) (nJ5_get n) [.ref a, .int x] σ (gc_Pr R) := by
  subst hx
  obtain ⟨n, rfl⟩ : ∃ k, n = k + 3 := ⟨n - 3, by omega⟩
  have hlen := hl.len
  obtain ⟨h1, h2, h3, r, h4, h5⟩ := hl
  refine ec_J5_get (fun K h => bc_J5_get_0 h ⟨h2, ?_⟩)
  rw [h3]
  refine kc_checkIndex hi (by omega) ⟨h2, ec_J5_elementData (fun K h => bc_J5_elementData_0 h ⟨h2, r, h4, ?_⟩)⟩
  rcases h5 with h5 | ⟨a1, a2, a3, a4, a5, a6, a7⟩
  · rw [h5.2.2] at hi; exact absurd hi (Nat.not_lt_zero _)
  · refine ⟨a2, vp_in_nI (by omega) (by omega), ?_⟩
    rw [nI_clamp (by omega), a6 i hi]
    exact k
/-- what a grown list is -/
theorem kc_grow {ow : Nat → Nat} {o a : Nat} {ch : List Nat} {r0 : Nat} (hθ : cTh θ) (hl : cL θ σ ow o a ch) (h40 : ch.length ≤ 40) (hr : gc_R σ 1201 a = some r0) (hf : gc_n σ r0 = ch.length)
    (k : ∀ σ' q, q ∉ gc_d σ → gc_A θ q → gc_d σ' = gc_d σ ++ [q] → cx θ (· = a) σ σ' → gc_is σ' q 20 → ch.length < gc_n σ' q → gc_n σ' q ≤ 60 → 10 ≤ gc_n σ' q → gc_R σ' 1201 a = some q → (∀ f, f ≠ 1201 → gc_R σ' f a = gc_R σ f a) → (∀ f, gc_I σ' f a = gc_I σ f a) → (∀ j, j < ch.length → gc_Q σ' q j = some (ch.getD j 0)) → (∀ j y, gc_Q σ' q j = some y → gc_isV θ σ' y) → R (some q) σ')
    (hn : 4 ≤ n := by omega) (hc : 1 ≤ cc := by omega) (hs : 60 ≤ ss := by omega) : gx_C (gc_O θ) (nJ5_grow n cc ss) [.ref a] σ (gc_Pr R) := by
  obtain ⟨n, rfl⟩ : ∃ k, n = k + 4 := ⟨n - 4, by omega⟩
  obtain ⟨h1, h2, h3, r, h4, h5⟩ := hl
  rw [h4] at hr
  obtain rfl : r = r0 := Option.some.inj hr
  refine ec_J5_grow (fun K h => bc_J5_grow_0 h ⟨h2, cc, ss, ⟨Nat.le_refl _, Nat.le_refl _⟩, h2, ?_⟩)
  rw [h3, nI_1]
  rcases h5 with ⟨e1, e2, e3⟩ | ⟨a1, a2, a3, a4, a5, a6, a7⟩
  · refine ec_J5_grow_2 (fun K h => bc_J5_grow_2_0 h ⟨h2, r, h4, Or.inr ⟨e1, e2⟩, ?_⟩)
    rintro _ rfl
    rw [e2]
    refine ⟨fun c => absurd c (by decide), fun _ => ⟨h2, fun _ => ?_, fun c => absurd (by rw [h4, e1]) c⟩⟩
    rw [e3]
    refine ⟨by decide, by decide, hc, Nat.le_trans (by decide) hs, ?_⟩
    rintro q hq hA _ rfl
    have haq : a ≠ q := fun z => hq (z ▸ h2.1)
    refine ⟨(cx_new (S := fun _ => False) σ 20 _ hq hA).is h2, ?_⟩
    rintro _ rfl
    have hcx : cx θ (· = a) σ (gc_sR (gc_new σ q 20 10) 1201 a (some q)) := (cx_new (S := (· = a)) σ 20 10 hq hA).trans' (cx_sR _ _ _ _)
    refine k _ q hq hA rfl hcx ⟨List.mem_append_right _ (List.mem_singleton_self q), ?_⟩ ?_ ?_ ?_ ?_ ?_ ?_ ?_ ?_
    · rw [rd_k_sR, rd_k_new, if_pos rfl]
    · rw [rd_n_sR, rd_n_new, if_pos rfl, e3]; decide
    · rw [rd_n_sR, rd_n_new, if_pos rfl]; decide
    · rw [rd_n_sR, rd_n_new, if_pos rfl]; decide
    · rw [rd_R_sR, if_pos ⟨rfl, rfl⟩]
    · intro f hf
      rw [rd_R_sR, if_neg (fun z => hf z.1), rd_R_new, if_neg haq]
    · intro f
      rw [rd_I_sR, rd_I_new, if_neg haq]
    · intro j hj
      rw [e3] at hj
      exact absurd hj (Nat.not_lt_zero _)
    · intro j y hy
      rw [rd_Q_sR, rd_Q_new, if_pos rfl] at hy
      exact absurd hy (by simp)
  · have hm : 10 ≤ ch.length := by omega
    refine ec_J5_grow_2 (fun K h => bc_J5_grow_2_0 h ⟨h2, r, h4, Or.inl a2, ?_⟩)
    rintro _ rfl
    rw [hf]
    refine ⟨fun _ => bc_J5_grow_2_20 h ?_, fun c => absurd (show (nI 0) < nI ch.length by rw [nI_ltI (by omega) (by omega)]; omega) c⟩
    have e1 : nI (ch.length + 1) - Int32.ofNat ch.length = nI 1 := by
      show nI (ch.length + 1) - nI ch.length = _
      rw [pk_sub (by omega)]; congr 1; omega
    have e2 : Int32.ofNat ch.length >>> ((1 : Int32) &&& 31) = nI (ch.length / 2) := by
      show nI ch.length >>> _ = _
      rw [pk_shrN (by omega) _ 1 (by decide)]
    rw [e1, e2]
    refine ec_J8_newLength (fun K h => bc_J8_newLength_0 h ?_)
    have e3 : Int32.ofNat ch.length + (if nI 1 < nI (ch.length / 2) then nI (ch.length / 2) else nI 1) = nI (ch.length + ch.length / 2) := by
      rw [if_pos ((nI_ltI (by omega) (by omega)).mpr (by omega))]
      show nI ch.length + _ = _
      rw [nI_add]
    rw [e3]
    rintro _ rfl
    refine ⟨fun c => absurd c (nI_nle (by omega) (by omega)), fun _ => ⟨fun c => ?_, fun _ => ?_⟩⟩
    · have c' : nI 2147483639 < nI (ch.length + ch.length / 2) := c
      rw [nI_ltI (by decide) (by omega)] at c'
      omega
    refine ⟨h2, cc, ss, ⟨Nat.le_refl _, Nat.le_refl _⟩, ?_⟩
    rw [h4]
    refine ec_J10_copyOf (x0 := some r) (fun K h => bc_J10_copyOf_0 h ⟨r, rfl, a2, cc, ss, ⟨Nat.le_refl _, Nat.le_refl _⟩, ec_J10_copyOf_2 (x0 := some r) (x2 := some (gc_aM θ)) (fun K h => bc_J10_copyOf_2_0 h ⟨fun _ => ?_, fun c => absurd rfl c⟩)⟩)
    rw [nI_clamp (by omega)]
    refine ⟨nI_pos (by omega), by omega, hc, by omega, ?_⟩
    rintro q hq hA _ rfl
    have haq : a ≠ q := fun z => hq (z ▸ h2.1)
    have hrq : r ≠ q := fun z => hq (z ▸ a2.1)
    have hx1 := cx_new (S := fun _ => False) (θ := θ) σ 20 (ch.length + ch.length / 2) hq hA
    have hn1 : gc_n (gc_new σ q 20 (ch.length + ch.length / 2)) r = ch.length := by rw [rd_n_new, if_neg hrq, hf]
    refine ⟨r, rfl, ?_⟩
    rw [hn1]
    have e4 : (if nI (ch.length + ch.length / 2) < Int32.ofNat ch.length then nI (ch.length + ch.length / 2) else Int32.ofNat ch.length) = nI ch.length := by
      rw [if_neg]
      · rfl
      · show ¬ nI (ch.length + ch.length / 2) < nI ch.length
        rw [nI_ltI (by omega) (by omega)]; omega
    rw [e4, nI_clamp (by omega), sb_cl0]
    refine ⟨Or.inl (hx1.is a2), ⟨hx1.is a2, ⟨List.mem_append_right _ (List.mem_singleton_self q), by rw [rd_k_new, if_pos rfl]⟩, by decide, by decide, nI_pos (by omega), by omega, ?_⟩, ?_, ?_⟩
    · rw [rd_n_new, if_pos rfl]; omega
    · intro j hj y hy
      rw [rd_Q_new, if_neg hrq] at hy
      exact hx1.isV (a7 _ y hy)
    · rintro _ rfl
      have hx2 := hx1.trans (cx_cQ (gc_new σ q 20 (ch.length + ch.length / 2)) r q 0 0 ch.length) (fun b hb => Or.inr (by rw [hb]; exact ⟨hq, hA⟩))
      refine ⟨hx2.is h2, ?_⟩
      rintro _ rfl
      have hx3 := (hx2.mono (S' := (· = a)) (fun _ _ z => z.elim)).trans' (cx_sR (gc_cQ (gc_new σ q 20 (ch.length + ch.length / 2)) r q 0 0 ch.length) 1201 a (some q))
      have hQ : ∀ j, gc_Q (gc_sR (gc_cQ (gc_new σ q 20 (ch.length + ch.length / 2)) r q 0 0 ch.length) 1201 a (some q)) q j = if j < ch.length then gc_Q σ r j else none := by
        intro j
        show va_up (gc_Q (gc_new σ q 20 (ch.length + ch.length / 2))) q (va_cpy (gc_Q (gc_new σ q 20 (ch.length + ch.length / 2)) r) (gc_Q (gc_new σ q 20 (ch.length + ch.length / 2)) q) 0 0 ch.length) q j = _
        rw [va_up_self]
        unfold va_cpy
        by_cases hj : j < ch.length
        · rw [if_pos ⟨Nat.zero_le _, by omega⟩, if_pos hj, rd_Q_new, if_neg hrq, Nat.zero_add, Nat.sub_zero]
        · rw [if_neg (by omega), if_neg hj, rd_Q_new, if_pos rfl]
      refine k _ q hq hA rfl hx3 ⟨List.mem_append_right _ (List.mem_singleton_self q), ?_⟩ ?_ ?_ ?_ ?_ ?_ ?_ ?_ ?_
      · show gc_k (gc_new σ q 20 (ch.length + ch.length / 2)) q = 20
        rw [rd_k_new, if_pos rfl]
      · show ch.length < gc_n (gc_new σ q 20 (ch.length + ch.length / 2)) q
        rw [rd_n_new, if_pos rfl]; omega
      · show gc_n (gc_new σ q 20 (ch.length + ch.length / 2)) q ≤ 60
        rw [rd_n_new, if_pos rfl]; omega
      · show 10 ≤ gc_n (gc_new σ q 20 (ch.length + ch.length / 2)) q
        rw [rd_n_new, if_pos rfl]; omega
      · rw [rd_R_sR, if_pos ⟨rfl, rfl⟩]
      · intro f hf
        rw [rd_R_sR, if_neg (fun z => hf z.1)]
        show gc_R (gc_new σ q 20 (ch.length + ch.length / 2)) f a = _
        rw [rd_R_new, if_neg haq]
      · intro f
        show gc_I (gc_new σ q 20 (ch.length + ch.length / 2)) f a = _
        rw [rd_I_new, if_neg haq]
      · intro j hj
        rw [hQ, if_pos hj]; exact a6 j hj
      · intro j y hy
        rw [hQ] at hy
        by_cases hj : j < ch.length
        · rw [if_pos hj] at hy; exact hx3.isV (a7 j y hy)
        · rw [if_neg hj] at hy; exact absurd hy (by simp)
end CL
