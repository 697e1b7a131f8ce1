/-! THE MODEL MEETS ITS SPECIFICATION: the small methods -/
theorem nI_pl {x : Int32} (h : x < 0 ∨ nI 8 ≤ x) {q : Nat} (hq : q < 8) : x ≠ nI q := by
  intro e
  subst e
  rcases h with h | h
  · exact nI_pos (by omega) h
  · rw [nI_leI (by decide) (by omega)] at h; omega
theorem nI_out {x : Int32} {n : Nat} (hn : n < 2 ^ 31) (h : x < 0 ∨ nI n ≤ x) (j : Nat) (hj : j < n) : x ≠ nI j := by
  intro e
  subst e
  rcases h with h | h
  · exact nI_pos (by omega) h
  · rw [nI_leI (by omega) (by omega)] at h; omega
/-- behind the last one of n -/
theorem nI_last {x : Int32} {n : Nat} (hn : n < 2 ^ 31) (h : nI n - 1 < x) : x < 0 ∨ nI n ≤ x := by
  by_cases c : x < 0
  · exact Or.inl c
  · obtain ⟨j, h1, rfl⟩ := nI_of c
    refine Or.inr ?_
    rw [nI_leI hn h1]
    by_cases c0 : n = 0
    · omega
    · rw [show (1 : Int32) = nI 1 from rfl, pk_sub (by omega), nI_ltI (by omega) (by omega)] at h
      omega
theorem nI_upto {x : Int32} {n : Nat} (hn : n < 2 ^ 31) (h0 : 0 ≤ x) (h : x ≤ nI n - 1) : ∃ j, j < n ∧ x = nI j := by
  obtain ⟨j, h1, rfl⟩ := nI_of (Int32.not_lt.mpr h0)
  refine ⟨j, ?_, rfl⟩
  by_cases c0 : n = 0
  · subst c0
    exfalso
    have h3 : (nI 0 - 1 : Int32) = -1 := rfl
    rw [h3] at h
    have h4 := Int32.le_trans h0 h
    exact absurd h4 (by decide)
  · rw [show (1 : Int32) = nI 1 from rfl, pk_sub (by omega), nI_leI (by omega) (by omega)] at h
    omega
section MS
variable {θ : gm_T} {P : Int32 → gm_X → Prop} {V : gm_X → Prop} {X : gm_X} {z : zz} {c : Nat}
/-- what a specification is handed here -/
abbrev mz (P : Int32 → gm_X → Prop) : zP := fun r z' => ∀ X', MS X' z' → P r X'
theorem ks_fnd {x : Int32} {f : Nat} (h : MS X z) (hs : sp_f z (mz P) f) (hf : f < 10 := by omega) (e : x = -nI f := by rfl) : gx_C (gm_O θ) mX7_found0 [.ref (gm_am θ), .int x] X (gm_Pi P) := by
  subst e
  exact km_found0 f (hs _ (h.found hf)) hf Int32.neg_neg
/-- all i in n, by 'in' -/
theorem ks_in {n : Nat} {i : Int32} {k : Nat → Prop} {e : Prop} (hn : n < 2 ^ 31) (hs : sp_ix i n k e) (k1 : ∀ j, j < n → i = nI j → k j → P 1 X) (k0 : e → P 0 X) : gx_C (gm_O θ) mX7_in [.int i, .int 0, .int (nI n - 1)] X (gm_Pi P) := by
  refine km_in (fun a b => ?_) (fun a => k0 (hs.2 (nI_out hn ?_)))
  · obtain ⟨j, h1, h2⟩ := nI_upto hn a b
    exact k1 j h1 h2 (hs.1 j h1 h2)
  · rcases a with a | a
    · exact Or.inl a
    · exact nI_last hn a
theorem ks_lacks {x : Int32} {k : Nat → Prop} {C : gm_X → Prop} (hz : zok c z) (h : MS X z) (hs : sp_tree x z (mz P) k) (kk : ∀ q, q < 8 → x = nI q → tr_n (zt z q) ≠ 0 → k q → C X) :
    gx_C (gm_O θ) mX7_lacks [.ref (gm_am θ), .int x] X (gm_Pi (fun r2 X2 => (0 ≤ r2 → C X2) ∧ (¬ 0 ≤ r2 → gx_C (gm_O θ) mX7_found0 [.ref (gm_am θ), .int r2] X2 (gm_Pi (fun r12 X12 => P r12 X12))))) := by
  refine km_lacks (fun p hp e => ?_) (fun a => ⟨fun q => absurd q (by decide), fun _ => ks_fnd (f := 1) h (hs.2 a)⟩)
  have hp1 := h.1 p hp
  have hs1 := hs.1 p hp e
  rw [hp1.2.1]
  have h30 := hp1.2.2.1
  refine pl_eq (a := tr_n (zt z p)) (b := 0) (fun c0 => ⟨fun q => absurd q (by decide), fun _ => ks_fnd (f := 2) h (hs1.1 c0)⟩) (fun c0 => ⟨fun _ => kk p hp e c0 (hs1.2 c0), fun q => absurd (by decide) q⟩)
theorem ks_size {x : Int32} (hz : zok c z) (h : MS X z) (hs : sp_size x z (mz P)) : gx_C (gm_O θ) mX7_size [.ref (gm_am θ), .int x] X (gm_Pi P) := by
  refine em_size (fun K hK => bm_size_0 hK (ks_lacks (C := fun X2 => vp_in x 11 ∧ P (X2.2 1 x.toNatClampNeg) X2) hz h hs (fun q hq e _ hk => ?_)))
  subst e
  rw [nI_clamp (by omega), (h.1 q hq).2.1]
  exact ⟨vp_in_nI (by omega) (by decide), hk X h⟩
theorem ks_letter {x : Int32} (hz : zok c z) (h : MS X z) (hs : sp_letter x z (mz P)) : gx_C (gm_O θ) mX7_letter [.ref (gm_am θ), .int x] X (gm_Pi P) := by
  have hl := hz.2.2.2.2.1
  have hw := h.2.2.2.1
  refine em_letter (fun K hK => bm_letter_0 hK ?_)
  rw [hw.1]
  refine ks_in (by omega) hs (fun j hj e hk => ⟨fun q => absurd q (by decide), fun _ => ?_⟩) (fun hk => ⟨fun _ => hk X h, fun q => absurd rfl q⟩)
  subst e
  rw [nI_clamp (by omega), hw.2 j hj]
  exact ⟨vp_in_nI (by omega) (by decide), hk X h⟩
theorem MS.cp {X' : gm_X} {p q : Nat} (h : MS X z) (k : ma_cp X X' p q (tr_n (zt z p))) (hp : p < 8) (hq : q < 8) : MS X' (z_t z q (zt z p)) := by
  obtain ⟨h1, h2, h3, h4, h5, h6, h7, h8, h9, h10, h11⟩ := h
  obtain ⟨k1, k2, k3, k4, k5⟩ := id k
  have e : ∀ b, b ≠ 0 → b ≠ 1 → X'.2 b = X.2 b := k2
  refine ⟨fun r hr => ?_, ?_, ?_, ?_, ?_, ?_, ?_, ?_, ?_, ?_, ?_⟩
  · show ma_mp X' r (if r = q then zt z p else zt z r)
    by_cases c : r = q
    · rw [if_pos c, c]; exact ma_cp.to k (h1 p hp) (by omega)
    · rw [if_neg c]; exact ma_cp.keep k (h1 r hr) c
  · unfold mN; rw [k1]; exact h2
  · unfold ma_tape; rw [k1, e 3 (by decide) (by decide)]; exact h3
  · unfold mW; rw [k1, e 5 (by decide) (by decide)]; exact h4
  · unfold mC; rw [e 7 (by decide) (by decide)]; exact h5
  · unfold mF; rw [e 8 (by decide) (by decide)]; exact h6
  · unfold mQ; rw [k1, e 23 (by decide) (by decide), e 24 (by decide) (by decide)]; exact h7
  · unfold mA; rw [k1, e 25 (by decide) (by decide), e 26 (by decide) (by decide), e 27 (by decide) (by decide)]; exact h8
  · unfold mM; rw [k1]; exact h9
  · unfold mX; rw [k1, e 29 (by decide) (by decide), e 30 (by decide) (by decide)]; exact h10
  · unfold mG; rw [k1]; exact h11
theorem ks_copy {x y : Int32} (hz : zok c z) (h : MS X z) (hs : sp_copy x y z (mz P)) : gx_C (gm_O θ) mX7_copy [.ref (gm_am θ), .int x, .int y] X (gm_Pi P) := by
  refine em_copy (fun K hK => bm_copy_0 hK (ks_lacks (C := fun X2 => gx_C (gm_O θ) mX7_isPlace [.int y] X2 (gm_Pi (fun r17 X17 => ((r17 = 0 → gx_C (gm_O θ) mX7_found0 [.ref (gm_am θ), .int (-1)] X17 (gm_Pi (fun r25 X25 => P r25 X25))) ∧ (¬ r17 = 0 → gx_C (gm_O θ) mX7_copyAll [.ref (gm_am θ), .int x, .int y] X17 (gm_Pv (fun X32 => vp_in y 11 ∧ P (X32.2 1 y.toNatClampNeg) X32))))))) hz h hs (fun q hq e _ hk => ?_)))
  refine km_isPlace (fun p hp e2 => ⟨fun q => absurd q (by decide), fun _ => ?_⟩) (fun a => ⟨fun _ => ks_fnd (f := 1) h (hk.2 a), fun q => absurd rfl q⟩)
  subst e e2
  have hp1 := h.1 q hq
  refine km_copyAll q p (tr_n (zt z q)) hp1.2.1 hp1.2.2.1 (fun X' hc => ?_)
  have := h.cp hc hq hp
  rw [nI_clamp (by omega), hc.2.2.1 p, if_pos rfl, hp1.2.1]
  exact ⟨vp_in_nI (by omega) (by decide), hk.1 p hp rfl X' this⟩
theorem MS.clr {p : Nat} (h : MS X z) (hp : p < 8) : MS (gm_pA X 1 p 0) (z_t z p tr_0) := by
  obtain ⟨h1, h2, h3, h4, h5, h6, h7, h8, h9, h10, h11⟩ := h
  have e : ∀ b, b ≠ 1 → (gm_pA X 1 p 0).2 b = X.2 b := fun b hb => ma_pA_ne hb
  refine ⟨fun r hr => ?_, h2, ?_, ?_, ?_, ?_, ?_, ?_, h9, ?_, h11⟩
  · show ma_mp _ r (if r = p then tr_0 else zt z r)
    by_cases c : r = p
    · rw [if_pos c]
      exact ⟨by omega, by rw [ma_pA_at, if_pos c]; rfl, by decide, fun i hi => absurd hi (Nat.not_lt_zero _)⟩
    · rw [if_neg c]
      have := h1 r hr
      refine ⟨this.1, by rw [ma_pA_at, if_neg c]; exact this.2.1, this.2.2.1, fun i hi => ?_⟩
      unfold ma_mr ma_ml ma_nd
      rw [e 0 (by decide)]; exact this.2.2.2 i hi
  · unfold ma_tape; rw [e 3 (by decide)]; exact h3
  · unfold mW; rw [e 5 (by decide)]; exact h4
  · unfold mC; rw [e 7 (by decide)]; exact h5
  · unfold mF; rw [e 8 (by decide)]; exact h6
  · unfold mQ; rw [e 23 (by decide), e 24 (by decide)]; exact h7
  · unfold mA; rw [e 25 (by decide), e 26 (by decide), e 27 (by decide)]; exact h8
  · unfold mX; rw [e 29 (by decide), e 30 (by decide)]; exact h10
theorem ks_clear {x : Int32} (h : MS X z) (hs : sp_clear x z (mz P)) : gx_C (gm_O θ) mX7_clear [.ref (gm_am θ), .int x] X (gm_Pi P) := by
  refine em_clear (fun K hK => bm_clear_0 hK (km_isPlace (fun p hp e2 => ⟨fun q => absurd q (by decide), fun _ => ?_⟩) (fun a => ⟨fun _ => ks_fnd (f := 1) h (hs.2 a), fun q => absurd rfl q⟩)))
  subst e2
  have hp1 := h.1 p hp
  have h30 := hp1.2.2.1
  have hv : vp_in (nI p) 11 := vp_in_nI (by omega) (by decide)
  have hk := hs.1 p hp rfl
  rw [nI_clamp (by omega), hp1.2.1]
  refine ⟨hv, pl_le (a := tr_n (zt z p)) (b := 0) (fun c0 => ⟨hv, ?_⟩) (fun c0 => ⟨hv, ?_⟩)⟩
  · rintro _ rfl
    exact hk.1 (by omega) _ (h.clr hp)
  · rintro _ rfl
    exact hk.2 (by omega) _ (h.clr hp)
theorem MS.prc {a v : Nat} (h : MS X z) : MS (gm_pA X 7 a (nI v)) (z_c z a v) := by
  obtain ⟨h1, h2, h3, h4, h5, h6, h7, h8, h9, h10, h11⟩ := h
  have e : ∀ b, b ≠ 7 → (gm_pA X 7 a (nI v)).2 b = X.2 b := fun b hb => ma_pA_ne hb
  refine ⟨fun r hr => ?_, h2, ?_, ?_, fun b hb => ?_, ?_, ?_, ?_, h9, ?_, h11⟩
  · have := h1 r hr
    unfold ma_mp ma_mr ma_ml ma_nd
    rw [e 0 (by decide), e 1 (by decide)]; exact this
  · unfold ma_tape; rw [e 3 (by decide)]; exact h3
  · unfold mW; rw [e 5 (by decide)]; exact h4
  · rw [ma_pA_at]
    show _ = nI (if b = a then v else zc z b)
    by_cases c : b = a
    · rw [if_pos c, if_pos c]
    · rw [if_neg c, if_neg c]; exact h5 b hb
  · unfold mF; rw [e 8 (by decide)]; exact h6
  · unfold mQ; rw [e 23 (by decide), e 24 (by decide)]; exact h7
  · unfold mA; rw [e 25 (by decide), e 26 (by decide), e 27 (by decide)]; exact h8
  · unfold mX; rw [e 29 (by decide), e 30 (by decide)]; exact h10
theorem ks_price {x y : Int32} (h : MS X z) (hs : sp_price x y z (mz P)) : gx_C (gm_O θ) mX7_price [.ref (gm_am θ), .int x, .int y] X (gm_Pi P) := by
  refine em_price (fun K hK => bm_price_0 hK ?_)
  refine ks_in (n := 4) (by decide) hs (fun a ha e hk => ⟨fun q => absurd q (by decide), fun _ => ?_⟩) (fun hk => ⟨fun _ => bm_price_20 hK (ks_fnd (f := 1) h hk), fun q => absurd rfl q⟩)
  subst e
  refine ks_in (n := 1001) (by decide) hk (fun v hv e hk2 => ⟨fun q => absurd q (by decide), fun _ => ?_⟩) (fun hk => ⟨fun _ => bm_price_20 hK (ks_fnd (f := 1) h hk), fun q => absurd rfl q⟩)
  subst e
  have hv : vp_in (nI a) 4 := vp_in_nI ha (by decide)
  rw [nI_clamp (by omega), h.2.2.2.2.1 a ha]
  refine ⟨hv, hv, ?_⟩
  rintro _ rfl
  exact hk2 _ h.prc
theorem ks_pair {x y : Int32} (hz : zok c z) (h : MS X z) (hs : sp_pair x y z (mz P)) : gx_C (gm_O θ) mX7_pair [.ref (gm_am θ), .int x, .int y] X (gm_Pi P) := by
  have hl := hz.2.2.2.2.2.2.2.1
  have hq := h.2.2.2.2.2.2.1
  refine em_pair (fun K hK => bm_pair_0 hK ?_)
  rw [hq.1]
  refine ks_in (by omega) hs (fun j hj e hk => ⟨fun q => absurd q (by decide), fun _ => ?_⟩) (fun hk => ⟨fun _ => ks_fnd (f := 6) h hk, fun q => absurd rfl q⟩)
  subst e
  have hv : vp_in (nI j) 30 := vp_in_nI (by omega) (by decide)
  rw [nI_clamp (by omega), (hq.2 j hj).1, (hq.2 j hj).2]
  exact ⟨fun e => ⟨hv, hk.1 e X h⟩, fun e => ⟨fun e2 => ⟨hv, hk.2.1 e2 X h⟩, fun e2 => ks_fnd (f := 1) h (hk.2.2 e e2)⟩⟩
theorem ks_acts (h : MS X z) (hs : sp_acts z (mz P)) : gx_C (gm_O θ) mX7_acts [.ref (gm_am θ)] X (gm_Pi P) :=
  em_acts (fun K hK => bm_acts_0 hK (by rw [h.2.2.2.2.2.2.2.1.1]; exact hs X h))
theorem ks_act {x y : Int32} (hz : zok c z) (h : MS X z) (hs : sp_act x y z (mz P)) : gx_C (gm_O θ) mX7_act [.ref (gm_am θ), .int x, .int y] X (gm_Pi P) := by
  have hl := hz.2.2.2.2.2.2.2.2.1
  have hq := h.2.2.2.2.2.2.2.1
  refine em_act (fun K hK => bm_act_0 hK ?_)
  rw [hq.1]
  refine ks_in (by omega) hs (fun j hj e hk => ⟨fun q => absurd q (by decide), fun _ => ?_⟩) (fun hk => ⟨fun _ => ks_fnd (f := 6) h hk, fun q => absurd rfl q⟩)
  subst e
  have hv : vp_in (nI j) 130 := vp_in_nI (by omega) (by decide)
  rw [nI_clamp (by omega), (hq.2 j hj).1, (hq.2 j hj).2.1, (hq.2 j hj).2.2]
  exact ⟨fun e => ⟨hv, hk.1 e X h⟩, fun e => ⟨fun e2 => ⟨hv, hk.2.1 e2 X h⟩, fun e2 => ⟨fun e3 => ⟨hv, hk.2.2.1 e3 X h⟩, fun e3 => ks_fnd (f := 1) h (hk.2.2.2 e e2 e3)⟩⟩⟩
theorem ks_like (hz : zok c z) (h : MS X z) (hs : sp_like z (mz P)) : gx_C (gm_O θ) mX7_like [.ref (gm_am θ)] X (gm_Pi P) := by
  have hm := h.2.2.2.2.2.2.2.2.1
  have hq := h.2.2.2.2.2.2.1
  have h60 := hz.2.2.2.2.2.2.2.2.2.1
  refine em_like (fun K hK => bm_like_0 hK ?_)
  by_cases c0 : zm z = 0
  · rw [hm.1 c0]
    exact ⟨fun q => absurd q (by decide), fun _ => ks_fnd (f := 6) h (hs.1 c0)⟩
  · rw [hm.2 c0, hq.1]
    exact ⟨fun _ => ⟨nI_ne0 (by omega) (by omega), hs.2 c0 X h⟩, fun q => absurd (nI_pos' (by omega)) q⟩
theorem ks_merged (h : MS X z) (hs : sp_merged z (mz P)) : gx_C (gm_O θ) mX7_merged [.ref (gm_am θ)] X (gm_Pi P) :=
  em_merged (fun K hK => bm_merged_0 hK (by rw [h.2.2.2.2.2.2.2.2.2.2]; exact hs X h))
theorem ks_clash {x y : Int32} (hz : zok c z) (h : MS X z) (hs : sp_clash x y z (mz P)) : gx_C (gm_O θ) mX7_clash [.ref (gm_am θ), .int x, .int y] X (gm_Pi P) := by
  have hl := hz.2.2.2.2.2.2.2.2.2.2.1
  have hq := h.2.2.2.2.2.2.2.2.2.1
  refine em_clash (fun K hK => bm_clash_0 hK ?_)
  rw [hq.1]
  refine ks_in (by omega) hs (fun j hj e hk => ⟨fun q => absurd q (by decide), fun _ => ?_⟩) (fun hk => ⟨fun _ => ks_fnd (f := 6) h hk, fun q => absurd rfl q⟩)
  subst e
  have hv : vp_in (nI j) 130 := vp_in_nI (by omega) (by decide)
  rw [nI_clamp (by omega), (hq.2 j hj).1, (hq.2 j hj).2]
  exact ⟨fun e => ⟨hv, hk.1 e X h⟩, fun e => ⟨fun e2 => ⟨hv, hk.2.1 e2 X h⟩, fun e2 => ks_fnd (f := 1) h (hk.2.2 e e2)⟩⟩
theorem ks_found {x : Int32} (h : MS X z) (hs : sp_found x z (mz P)) : gx_C (gm_O θ) mX7_found [.ref (gm_am θ), .int x] X (gm_Pi P) := by
  refine em_found (fun K hK => bm_found_0 hK ?_)
  have go : ∀ f : Nat, ((1 ≤ f ∧ f ≤ 7) ∨ f = 9) → x = -nI f → gm_G θ K mX7_found (gm_Pi P) 16 [(0, .ref (gm_am θ)), (1, .int x)] [] X := fun f hf e => by
    refine bm_found_16 hK ?_
    have e2 : -x = nI f := by rw [e, Int32.neg_neg]
    rw [e2, nI_clamp (by omega), h.2.2.2.2.2.1 f (by omega)]
    exact ⟨vp_in_nI (by omega) (by decide), hs.1 f hf e X h⟩
  have dich : ∀ f : Nat, (1 ≤ f ∧ f ≤ 7) → -7 ≤ (-nI f : Int32) ∧ (-nI f : Int32) ≤ -1 := by
    intro f hf
    have : f = 1 ∨ f = 2 ∨ f = 3 ∨ f = 4 ∨ f = 5 ∨ f = 6 ∨ f = 7 := by omega
    rcases this with rfl | rfl | rfl | rfl | rfl | rfl | rfl <;> decide
  refine km_in (fun a b => ⟨fun q => absurd q (by decide), fun _ => ?_⟩) (fun a => ⟨fun _ => ⟨fun e => go 9 (Or.inr rfl) e, fun e => ks_fnd (f := 1) h (hs.2 (fun f hf e2 => ?_))⟩, fun q => absurd rfl q⟩)
  · have n1 : 0 ≤ -x := by
      rw [Int32.le_iff_toInt_le] at b ⊢
      have e1 : (-1 : Int32).toInt = -1 := by decide
      have e0 : (0 : Int32).toInt = 0 := by decide
      rw [Int32.le_iff_toInt_le] at a
      have e7 : (-7 : Int32).toInt = -7 := by decide
      rw [Int32.toInt_neg, e0, Int.bmod_eq_of_le (by omega) (by omega)]
      omega
    obtain ⟨f, f1, f2⟩ := nI_of (Int32.not_lt.mpr n1)
    have e : x = -nI f := by rw [← f2, Int32.neg_neg]
    refine go f (Or.inl ?_) e
    have e1 : (-1 : Int32).toInt = -1 := by decide
    have e7 : (-7 : Int32).toInt = -7 := by decide
    rw [Int32.le_iff_toInt_le, e, sb_negT f1, e1] at b
    rw [Int32.le_iff_toInt_le, e, sb_negT f1, e7] at a
    omega
  · rcases hf with hf | hf
    · have := dich f hf
      rw [← e2] at this
      rcases a with a | a
      · exact Int32.not_le.mpr a this.1
      · exact Int32.not_le.mpr a this.2
    · exact e (by rw [e2, hf]; rfl)
end MS
