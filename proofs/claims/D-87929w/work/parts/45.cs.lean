/-! the component meets the specification: price, pair, act, clash, found -/
theorem nI_gt {x : Int32} {n : Nat} (hn : n + 1 < 2 ^ 31) (h : nI n < x) : nI (n + 1) ≤ x := by
  have h0 : ¬ x < 0 := fun z => by
    have h1 := Int32.lt_of_lt_of_le z (nI_pos' (n := n) (by omega))
    exact absurd h (Int32.not_lt.mpr (Int32.le_of_lt h1))
  obtain ⟨j, h1, rfl⟩ := nI_of h0
  rw [nI_ltI (by omega) h1] at h
  rw [nI_leI hn h1]
  omega
theorem nI_nle2 {x : Int32} {n : Nat} (hn : n + 1 < 2 ^ 31) (h : ¬ nI n < x) : ¬ nI (n + 1) ≤ x := fun z => h (by
  have : nI n < nI (n + 1) := (nI_ltI (by omega) hn).mpr (by omega)
  exact Int32.lt_of_lt_of_le this z)
section CS
variable {θ : gc_T} {g : Nat → Nat} {σ : gc_S} {z z' : zz} {ow TR : Nat → Nat} {A : Nat → Nat → Nat} {P : Int32 → gc_S → Prop} {c n cc ss : Nat}
theorem kn_price {x y : Int32} (hθ : cTh θ) (h : CSo θ g σ z ow TR A) (hs : sp_price x y z (cz θ g P)) (hn : 300 ≤ n := by omega) : gx_C (gc_O θ) (nX0_price n) [.ref (g 0), .int x, .int y] σ (gc_Pi P) := by
  obtain ⟨n, rfl⟩ : ∃ k, n = k + 1 := ⟨n - 1, by omega⟩
  refine ec_X0_price (fun K hK => bc_X0_price_0 hK ?_)
  have bad : sp_f z (cz θ g P) 1 → gc_G θ K (nX0_price (n + 1)) (gc_Pi P) 25 [(0, va_rf (some (g 0))), (1, .int x), (2, .int y)] [va_rf (some (g 0))] σ 0 0 := fun a =>
    bc_X0_price_25 hK (bc_X0_price_26 hK ⟨g 0, rfl, h.is 0, kn_need h (fun b => absurd rfl b) (fun _ => ⟨h.is 1, bc_X0_price_52 hK ⟨h.is 0, kn_fnd hθ h a⟩⟩)⟩)
  refine ⟨fun a => bad (hs.2 (nI_out (by decide) (Or.inl a))), fun a => ⟨fun b => bad (hs.2 (nI_out (by decide) (Or.inr b))), fun b => ?_⟩⟩
  obtain ⟨i, hi, rfl⟩ := nI_ix (n := 4) (by decide) a b
  have hk := hs.1 i hi rfl
  refine ⟨fun a => bad (hk.2 (nI_out (by decide) (Or.inl a))), fun a => ⟨fun b => bad (hk.2 (nI_out (by decide) (Or.inr (nI_gt (n := 1000) (by decide) b)))), fun b => ?_⟩⟩
  obtain ⟨v, hv, rfl⟩ := nI_ix (n := 1001) (by decide) a (nI_nle2 (n := 1000) (by decide) b)
  have n9 : gc_n σ (g 9) = 4 := h.n 9
  have hiv : vp_in (nI i) (gc_n σ (g 9)) := by rw [n9]; exact vp_in_nI hi (by decide)
  refine bc_X0_price_26 hK ⟨g 0, rfl, h.is 0, kn_need h (fun _ => ⟨h.is 0, g 8, h.ln 8 0 8, h.is 8, g 9, h.ln 400 8 9, h.is 9, hiv, ?_⟩) (fun a => absurd a (by decide))⟩
  rintro _ rfl
  refine ⟨h.is 0, h.is 8, h.is 9, hiv, ?_⟩
  rw [nI_clamp (by omega), h.2.2.1.2.2.1 i hi]
  rintro _ rfl
  exact hk.1 v hv rfl _ ⟨_, _, _, h.prc hθ⟩
theorem kn_pair {x y : Int32} (hθ : cTh θ) (hz : zok c z) (h : CSo θ g σ z ow TR A) (hs : sp_pair x y z (cz θ g P)) (hn : 300 ≤ n := by omega) : gx_C (gc_O θ) (nX0_pair n) [.ref (g 0), .int x, .int y] σ (gc_Pi P) := by
  obtain ⟨n, rfl⟩ : ∃ k, n = k + 1 := ⟨n - 1, by omega⟩
  have hl := hz.2.2.2.2.2.2.2.1
  have hq := h.2.2.1.2.2.2.2.1
  have n21 : gc_n σ (g 21) = 30 := h.n 21
  have n22 : gc_n σ (g 22) = 30 := h.n 22
  refine ec_X0_pair (fun K hK => bc_X0_pair_0 hK ?_)
  have bad : sp_f z (cz θ g P) 6 → gc_G θ K (nX0_pair (n + 1)) (gc_Pi P) 17 [(0, va_rf (some (g 0))), (1, .int x), (2, .int y)] [va_rf (some (g 0))] σ 0 0 := fun a =>
    bc_X0_pair_17 hK (bc_X0_pair_18 hK ⟨g 0, rfl, h.is 0, kn_need h (fun b => absurd rfl b) (fun _ => ⟨h.is 1, bc_X0_pair_62 hK ⟨h.is 0, kn_fnd hθ h a⟩⟩)⟩)
  rw [hq.1]
  refine ⟨fun a => bad (hs.2 (nI_out (by omega) (Or.inl a))), fun a => ⟨h.is 0, fun b => bad (hs.2 (nI_out (by omega) (Or.inr b))), fun b => ?_⟩⟩
  obtain ⟨j, hj, rfl⟩ := nI_ix (by omega) a b
  have hk := hs.1 j hj rfl
  have good : (y = 0 ∨ y = 1) → gc_G θ K (nX0_pair (n + 1)) (gc_Pi P) 33 [(0, va_rf (some (g 0))), (1, .int (nI j)), (2, .int y)] [va_rf (some (g 0))] σ 0 0 := fun e => by
    refine bc_X0_pair_33 hK (bc_X0_pair_38 hK ⟨g 0, rfl, h.is 0, kn_need h (fun _ => ⟨fun e0 => ⟨h.is 0, g 21, h.ln 15 0 21, h.is 21, by rw [n21]; exact vp_in_nI (by omega) (by decide), ?_⟩, fun e0 => ⟨h.is 0, g 22, h.ln 16 0 22, h.is 22, by rw [n22]; exact vp_in_nI (by omega) (by decide), ?_⟩⟩) (fun a => absurd a (by decide))⟩)
    · rw [nI_clamp (by omega), (hq.2 j hj).1]; exact hk.1 e0 σ ⟨_, _, _, h⟩
    · rw [nI_clamp (by omega), (hq.2 j hj).2]; exact hk.2.1 (e.resolve_left e0) σ ⟨_, _, _, h⟩
  refine bc_X0_pair_18 hK ⟨g 0, rfl, h.is 0, kn_need h (fun _ => ⟨fun e => good (Or.inl e), fun e => ⟨fun e2 => good (Or.inr e2), fun e2 => ?_⟩⟩) (fun a => absurd a (by decide))⟩
  exact bc_X0_pair_38 hK ⟨g 0, rfl, h.is 0, kn_need h (fun b => absurd rfl b) (fun _ => ⟨h.is 1, bc_X0_pair_62 hK ⟨h.is 0, kn_fnd hθ h (hk.2.2 e e2)⟩⟩)⟩
theorem kn_act {x y : Int32} (hθ : cTh θ) (hz : zok c z) (h : CSo θ g σ z ow TR A) (hs : sp_act x y z (cz θ g P)) (hn : 300 ≤ n := by omega) : gx_C (gc_O θ) (nX0_act n) [.ref (g 0), .int x, .int y] σ (gc_Pi P) := by
  obtain ⟨n, rfl⟩ : ∃ k, n = k + 1 := ⟨n - 1, by omega⟩
  have hl := hz.2.2.2.2.2.2.2.2.1
  have hq := h.2.2.1.2.2.2.2.2.1
  have n23 : gc_n σ (g 23) = 120 := h.n 23
  have n24 : gc_n σ (g 24) = 120 := h.n 24
  have n25 : gc_n σ (g 25) = 120 := h.n 25
  refine ec_X0_act (fun K hK => bc_X0_act_0 hK ?_)
  have bad : sp_f z (cz θ g P) 6 → gc_G θ K (nX0_act (n + 1)) (gc_Pi P) 17 [(0, va_rf (some (g 0))), (1, .int x), (2, .int y)] [va_rf (some (g 0))] σ 0 0 := fun a =>
    bc_X0_act_17 hK (bc_X0_act_18 hK ⟨g 0, rfl, h.is 0, kn_need h (fun b => absurd rfl b) (fun _ => ⟨h.is 1, bc_X0_act_76 hK ⟨h.is 0, kn_fnd hθ h a⟩⟩)⟩)
  rw [hq.1]
  refine ⟨fun a => bad (hs.2 (nI_out (by omega) (Or.inl a))), fun a => ⟨h.is 0, fun b => bad (hs.2 (nI_out (by omega) (Or.inr b))), fun b => ?_⟩⟩
  obtain ⟨j, hj, rfl⟩ := nI_ix (by omega) a b
  have hk := hs.1 j hj rfl
  obtain ⟨q1, q2, q3⟩ := hq.2 j hj
  have bad2 : (∀ i : Nat, i < 3 → y ≠ nI i) → gc_G θ K (nX0_act (n + 1)) (gc_Pi P) 37 [(0, va_rf (some (g 0))), (1, .int (nI j)), (2, .int y)] [va_rf (some (g 0))] σ 0 0 := fun e =>
    bc_X0_act_37 hK (bc_X0_act_38 hK ⟨g 0, rfl, h.is 0, kn_need h (fun b => absurd rfl b) (fun _ => ⟨h.is 1, bc_X0_act_76 hK ⟨h.is 0, kn_fnd hθ h (hk.2.2.2 (e 0 (by decide)) (e 1 (by decide)) (e 2 (by decide)))⟩⟩)⟩)
  refine bc_X0_act_18 hK ⟨g 0, rfl, h.is 0, kn_need h (fun _ => ⟨fun e => bad2 (nI_out (by decide) (Or.inl e)), fun e => ⟨fun e2 => bad2 (nI_out (by decide) (Or.inr (nI_gt (n := 2) (by decide) e2))), fun e2 => ?_⟩⟩) (fun a => absurd a (by decide))⟩
  obtain ⟨w, hw, rfl⟩ := nI_ix (n := 3) (by decide) e (nI_nle2 (n := 2) (by decide) e2)
  refine bc_X0_act_38 hK ⟨g 0, rfl, h.is 0, kn_need h (fun _ => ⟨fun e0 => ⟨h.is 0, g 23, h.ln 18 0 23, h.is 23, by rw [n23]; exact vp_in_nI (by omega) (by decide), ?_⟩, fun e0 => ⟨fun e1 => ⟨h.is 0, g 24, h.ln 19 0 24, h.is 24, by rw [n24]; exact vp_in_nI (by omega) (by decide), ?_⟩, fun e1 => ⟨h.is 0, g 25, h.ln 20 0 25, h.is 25, by rw [n25]; exact vp_in_nI (by omega) (by decide), ?_⟩⟩⟩) (fun a => absurd a (by decide))⟩
  · rw [nI_clamp (by omega), q1]; exact hk.1 e0 σ ⟨_, _, _, h⟩
  · rw [nI_clamp (by omega), q2]; exact hk.2.1 e1 σ ⟨_, _, _, h⟩
  · have e0 : ¬ nI w = nI 0 := e0
    have e1 : ¬ nI w = nI 1 := e1
    rw [nI_eq (by omega) (by decide)] at e0 e1
    have : w = 2 := by omega
    subst this
    rw [nI_clamp (by omega), q3]; exact hk.2.2.1 rfl σ ⟨_, _, _, h⟩
theorem kn_clash {x y : Int32} (hθ : cTh θ) (hz : zok c z) (h : CSo θ g σ z ow TR A) (hs : sp_clash x y z (cz θ g P)) (hn : 300 ≤ n := by omega) : gx_C (gc_O θ) (nX0_clash n) [.ref (g 0), .int x, .int y] σ (gc_Pi P) := by
  obtain ⟨n, rfl⟩ : ∃ k, n = k + 1 := ⟨n - 1, by omega⟩
  have hl := hz.2.2.2.2.2.2.2.2.2.2.1
  have hq := h.2.2.1.2.2.2.2.2.2.2.1
  have n18 : gc_n σ (g 18) = 362 := h.n 18
  have n19 : gc_n σ (g 19) = 362 := h.n 19
  refine ec_X0_clash (fun K hK => bc_X0_clash_0 hK ?_)
  have bad : sp_f z (cz θ g P) 6 → gc_G θ K (nX0_clash (n + 1)) (gc_Pi P) 20 [(0, va_rf (some (g 0))), (1, .int x), (2, .int y)] [va_rf (some (g 0))] σ 0 0 := fun a =>
    bc_X0_clash_20 hK (bc_X0_clash_21 hK ⟨g 0, rfl, h.is 0, kn_need h (fun b => absurd rfl b) (fun _ => ⟨h.is 1, bc_X0_clash_71 hK ⟨h.is 0, kn_fnd hθ h a⟩⟩)⟩)
  refine ⟨fun a => bad (hs.2 (nI_out (by omega) (Or.inl a))), fun a => ⟨h.is 0, g 16, h.ln 10 0 16, h.is 16, ?_⟩⟩
  rw [hq.1]
  refine ⟨fun b => bad (hs.2 (nI_out (by omega) (Or.inr b))), fun b => ?_⟩
  obtain ⟨j, hj, rfl⟩ := nI_ix (by omega) a b
  have hk := hs.1 j hj rfl
  have good : (y = 0 ∨ y = 1) → gc_G θ K (nX0_clash (n + 1)) (gc_Pi P) 36 [(0, va_rf (some (g 0))), (1, .int (nI j)), (2, .int y)] [va_rf (some (g 0))] σ 0 0 := fun e => by
    refine bc_X0_clash_36 hK (bc_X0_clash_41 hK ⟨g 0, rfl, h.is 0, kn_need h (fun _ => ⟨fun e0 => ⟨h.is 0, g 16, h.ln 10 0 16, h.is 16, g 18, h.ln 601 16 18, h.is 18, by rw [n18]; exact vp_in_nI (by omega) (by decide), ?_⟩, fun e0 => ⟨h.is 0, g 16, h.ln 10 0 16, h.is 16, g 19, h.ln 602 16 19, h.is 19, by rw [n19]; exact vp_in_nI (by omega) (by decide), ?_⟩⟩) (fun a => absurd a (by decide))⟩)
    · rw [nI_clamp (by omega), (hq.2 j hj).1]; exact hk.1 e0 σ ⟨_, _, _, h⟩
    · rw [nI_clamp (by omega), (hq.2 j hj).2]; exact hk.2.1 (e.resolve_left e0) σ ⟨_, _, _, h⟩
  refine bc_X0_clash_21 hK ⟨g 0, rfl, h.is 0, kn_need h (fun _ => ⟨fun e => good (Or.inl e), fun e => ⟨fun e2 => good (Or.inr e2), fun e2 => ?_⟩⟩) (fun a => absurd a (by decide))⟩
  exact bc_X0_clash_41 hK ⟨g 0, rfl, h.is 0, kn_need h (fun b => absurd rfl b) (fun _ => ⟨h.is 1, bc_X0_clash_71 hK ⟨h.is 0, kn_fnd hθ h (hk.2.2 e e2)⟩⟩)⟩
theorem nI_17 {x : Int32} (a : -7 ≤ x) (b : x ≤ -1) : ∃ f : Nat, 1 ≤ f ∧ f ≤ 7 ∧ x = -nI f := by
  have e1 : (-1 : Int32).toInt = -1 := by decide
  have e7 : (-7 : Int32).toInt = -7 := by decide
  have e0 : (0 : Int32).toInt = 0 := by decide
  have n1 : 0 ≤ -x := by
    rw [Int32.le_iff_toInt_le] at b a ⊢
    rw [Int32.toInt_neg, e0, Int.bmod_eq_of_le (by omega) (by omega)]
    omega
  obtain ⟨f, f1, f2⟩ := nI_of (Int32.not_lt.mpr n1)
  have e : x = -nI f := by rw [← f2, Int32.neg_neg]
  rw [Int32.le_iff_toInt_le, e, sb_negT f1, e1] at b
  rw [Int32.le_iff_toInt_le, e, sb_negT f1, e7] at a
  exact ⟨f, by omega, by omega, e⟩
theorem nI_17' (f : Nat) (hf : 1 ≤ f ∧ f ≤ 7) : -7 ≤ (-nI f : Int32) ∧ (-nI f : Int32) ≤ -1 := by
  have : f = 1 ∨ f = 2 ∨ f = 3 ∨ f = 4 ∨ f = 5 ∨ f = 6 ∨ f = 7 := by omega
  rcases this with rfl | rfl | rfl | rfl | rfl | rfl | rfl <;> decide
theorem kn_found {x : Int32} (hθ : cTh θ) (h : CSo θ g σ z ow TR A) (hs : sp_found x z (cz θ g P)) (hn : 300 ≤ n := by omega) : gx_C (gc_O θ) (nX0_found n) [.ref (g 0), .int x] σ (gc_Pi P) := by
  obtain ⟨n, rfl⟩ : ∃ k, n = k + 1 := ⟨n - 1, by omega⟩
  have n2 : gc_n σ (g 2) = 10 := h.n 2
  refine ec_X0_found (fun K hK => bc_X0_found_0 hK ?_)
  have go : ∀ f : Nat, ((1 ≤ f ∧ f ≤ 7) ∨ f = 9) → x = -nI f → gx_C (gc_O θ) (nX0_need n) [.ref (g 0), .int 1, .int (-1)] σ (gc_Qv (fun σ24 => gc_is σ24 (g 0) 0 ∧ ∃ a33_1 : Nat, gc_R σ24 1 (g 0) = some a33_1 ∧ gc_is σ24 a33_1 14 ∧ vp_in (-x) (gc_n σ24 a33_1) ∧ P (gc_E σ24 a33_1 (-x).toNatClampNeg) σ24) (fun a24 σ24 => gc_is σ24 a24 1 ∧ gc_G θ K (nX0_found (n + 1)) (gc_Pi P) 35 [(0, va_rf (some (g 0)))] [va_rf (some a24)] σ24 0 0)) := fun f hf e => by
    refine kn_need h (fun _ => ⟨h.is 0, g 2, h.ln 1 0 2, h.is 2, ?_⟩) (fun a => absurd a (by decide))
    have e2 : -x = nI f := by rw [e, Int32.neg_neg]
    rw [e2, nI_clamp (by omega), n2, h.2.2.1.2.2.2.1 f (by omega)]
    exact ⟨vp_in_nI (by omega) (by decide), hs.1 f hf e σ ⟨_, _, _, h⟩⟩
  have out : (-1 < x ∨ ¬ -7 ≤ x) → gc_G θ K (nX0_found (n + 1)) (gc_Pi P) 12 [(0, va_rf (some (g 0))), (1, .int x)] [va_rf (some (g 0))] σ 0 0 := fun a => by
    refine bc_X0_found_12 hK ⟨fun e => ⟨g 0, rfl, h.is 0, go 9 (Or.inr rfl) e⟩, fun e => ⟨g 0, rfl, h.is 0, kn_need h (fun b => absurd rfl b) (fun _ => ⟨h.is 1, bc_X0_found_35 hK ⟨h.is 0, kn_fnd hθ h (hs.2 (fun f hf e2 => ?_))⟩⟩)⟩⟩
    rcases hf with hf | hf
    · have := nI_17' f hf
      rw [← e2] at this
      rcases a with a | a
      · exact Int32.not_le.mpr a this.2
      · exact a this.1
    · exact e (by rw [e2, hf]; rfl)
  refine ⟨fun a => out (Or.inl a), fun a => ⟨fun b => ⟨h.is 0, ?_⟩, fun b => out (Or.inr b)⟩⟩
  obtain ⟨f, f1, f2, f3⟩ := nI_17 b (Int32.not_lt.mp a)
  exact go f (Or.inl ⟨f1, f2⟩) f3
end CS
