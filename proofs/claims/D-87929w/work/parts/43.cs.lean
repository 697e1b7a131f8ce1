/-! single stores into lasting cells; findings -/
section CS
variable {θ : gc_T} {g : Nat → Nat} {σ : gc_S} {z z' : zz} {ow TR : Nat → Nat} {A : Nat → Nat → Nat}
/-- all but the flat facts stays where one lasting cell is written -/
theorem CSo.st {σ' : gc_S} {i : Nat} (hθ : cTh θ) (h : CSo θ g σ z ow TR A) (hi : role i) (h17 : i ≠ 17) (h20 : i ≠ 20) (h3 : i ≠ 3) (h10 : i ≠ 10) (h11 : i ≠ 11) (k : cx θ (· = g i) σ σ') (hd : gc_d σ' = gc_d σ) (hR : gc_R σ' = gc_R σ) (ht : zt z' = zt z) (hF : cF σ' g z') : CSo θ g σ' z' ow TR A := by
  obtain ⟨⟨n1, n2⟩, ⟨g1, g2, g3, g4, g5⟩, _, ⟨o1, o2⟩, ⟨t1, t2⟩, ⟨⟨c1, l1⟩, c2, l2⟩⟩ := id h
  have nn : ∀ j, role j → j ≠ i → cs_ σ σ' (g j) := fun j hj e => k.2.2.2 (g j) (Or.inl (g1 j hj).1.1) (fun z => e (g5 j i hj hi z))
  refine ⟨⟨?_, ?_⟩, ⟨fun j hj => ⟨k.is (g1 j hj).1, fun hk => ?_⟩, fun x hx => by rw [hR]; exact g2 x hx, fun j hj => ?_, fun j hj => ?_, g5⟩, hF, ⟨o1.same hd, o2⟩, ⟨fun p hp => ?_, ?_⟩, ⟨c1, ?_⟩, c2, ?_⟩
  · rw [(k.2.2.1 _ (Or.inr hθ.1)).2]; exact n1
  · rw [(k.2.2.1 _ (Or.inr hθ.2)).2]; exact n2
  · rw [(k.2.2.1 _ (Or.inl (g1 j hj).1.1)).2]; exact (g1 j hj).2 hk
  · rw [(nn 10 (Or.inl (by decide)) (Ne.symm h10)).2.2.2.1]; exact g3 j hj
  · rw [(nn 11 (Or.inl (by decide)) (Ne.symm h11)).2.2.2.1]; exact g4 j hj
  · rw [ht, (nn 3 (Or.inl (by decide)) (Ne.symm h3)).2.2.2.1]
    refine ⟨(t1 p hp).1, fun z0 => ⟨((t1 p hp).2 z0).1, ((t1 p hp).2 z0).2.cx hθ k (fun q e => ?_) (fun _ _ => rfl) (fun _ z => z)⟩⟩
    rw [e]
    exact h.tn ((t1 p hp).2 z0).2 hi
  · rw [ht]; exact t2
  · refine l1.cx hθ k (fun q e _ => ?_) (fun _ _ e => e)
    rw [e, o2 i hi]
    exact h.ne h17 hi (Or.inl (by decide))
  · refine l2.cx hθ k (fun q e _ => ?_) (fun _ _ e => e)
    rw [e, o2 i hi]
    exact h.ne h20 hi (Or.inl (by decide))
theorem eE {j i x : Nat} {v : Int32} (h : g j ≠ g i) : gc_E (gc_sE σ (g i) x v) (g j) = gc_E σ (g j) := va_up_ne _ _ h
theorem cq_code (v : Int32) : cq θ g σ (gc_sI σ 106 (g 1) v) := by
  refine ⟨(cx_sI σ 106 (g 1) v).mono (fun a _ e => ⟨1, Or.inl (by decide), e⟩), fun _ _ _ _ => rfl, ?_⟩
  rw [rd_I_sI, if_neg (by simp)]
theorem CSo.found (hθ : cTh θ) (h : CSo θ g σ z ow TR A) {f : Nat} (hf : f < 10) : CSo θ g (gc_sE σ (g 2) f (gc_E σ (g 2) f + 1)) (z_f z f) ow TR A := by
  refine h.st hθ (i := 2) (Or.inl (by decide)) (by decide) (by decide) (by decide) (by decide) (by decide) (cx_sE σ (g 2) f _) rfl rfl rfl ?_
  obtain ⟨f1, f2, f3, f4, f5, f6, f7, f8, f9⟩ := h.2.2.1
  have e : ∀ j, j ≠ 2 → j < 26 → gc_E (gc_sE σ (g 2) f (gc_E σ (g 2) f + 1)) (g j) = gc_E σ (g j) := fun j h1 h2 => eE (h.ne h1 (Or.inl h2) (Or.inl (by decide)))
  refine ⟨?_, ?_, ?_, fun k hk => ?_, ?_, ?_, f7, ?_, f9⟩
  · unfold fA; rw [e 4 (by decide) (by decide)]; exact f1
  · unfold fW; rw [e 7 (by decide) (by decide)]; exact f2
  · unfold fC; rw [e 9 (by decide) (by decide)]; exact f3
  · rw [rd_E_sE]
    show _ = if k = f then zf z f + 1 else zf z k
    by_cases c : k = f
    · rw [if_pos ⟨rfl, c⟩, if_pos c, f4 f hf]
    · rw [if_neg (fun y => c y.2), if_neg c]; exact f4 k hk
  · unfold fQ; rw [e 21 (by decide) (by decide), e 22 (by decide) (by decide)]; exact f5
  · unfold fD; rw [e 23 (by decide) (by decide), e 24 (by decide) (by decide), e 25 (by decide) (by decide)]; exact f6
  · unfold fX; rw [e 18 (by decide) (by decide), e 19 (by decide) (by decide)]; exact f8
abbrev cz (θ : gc_T) (g : Nat → Nat) (P : Int32 → gc_S → Prop) : zP := fun r z' => ∀ σ', CS θ g σ' z' → P r σ'
variable {P : Int32 → gc_S → Prop} {V : gc_S → Prop} {T : Nat → gc_S → Prop} {R : Option Nat → gc_S → Prop} {n cc ss : Nat}
theorem kn_need {x1 x2 : Int32} (h : CSo θ g σ z ow TR A) (k1 : x1 ≠ 0 → V σ) (k0 : x1 = 0 → T (g 1) (gc_sI σ 106 (g 1) x2)) (hn : 1 ≤ n := by omega) : gx_C (gc_O θ) (nX0_need n) [.ref (g 0), .int x1, .int x2] σ (gc_Qv V T) := by
  obtain ⟨n, rfl⟩ : ∃ k, n = k + 1 := ⟨n - 1, by omega⟩
  refine ec_X0_need (fun K hK => bc_X0_need_0 hK ⟨fun e => ⟨h.is 0, g 1, h.ln 0 0 1, h.is 1, ec_X1_of (fun K hK => bc_X1_of_0 hK ⟨h.is 1, ?_⟩)⟩, k1⟩)
  rintro _ rfl
  exact ⟨g 1, rfl, k0 e⟩
theorem kn_fnd {f : Nat} {x : Int32} (hθ : cTh θ) (h : CSo θ g σ z ow TR A) (hs : sp_f z (cz θ g P) f) (hf : f ≤ 7 := by omega) (hx : x = -nI f := by rfl) : gx_C (gc_O θ) (nX0_finds n) [.ref (g 0), .ref (g 1)] (gc_sI σ 106 (g 1) x) (gc_Pi P) := by
  subst hx
  have h1 := h.q hθ (cq_code (θ := θ) (g := g) (σ := σ) (-nI f))
  have e1 : gc_I (gc_sI σ 106 (g 1) (-nI f)) 106 (g 1) = -nI f := by rw [rd_I_sI, if_pos ⟨rfl, rfl⟩]
  generalize gc_sI σ 106 (g 1) (-nI f) = τ at h1 e1
  refine ec_X0_finds (x1 := some (g 1)) (fun K hK => bc_X0_finds_0 hK ⟨h1.is 0, g 1, rfl, h1.is 1, ?_⟩)
  rw [e1, Int32.neg_neg]
  have n2 : gc_n τ (g 2) = 10 := h1.n 2
  refine ⟨fun _ => ⟨h1.is 1, g 2, h1.ln 1 0 2, h1.is 2, by rw [n2]; exact vp_in_nI (by omega) (by decide), h1.is 2, by rw [n2]; exact vp_in_nI (by omega) (by decide), ?_⟩, fun c => absurd ?_ c⟩
  · rw [nI_clamp (by omega)]
    rintro _ rfl
    refine ⟨h1.is 1, ?_⟩
    rw [rd_I_sE, e1]
    exact hs _ ⟨_, _, _, h1.found hθ (by omega)⟩
  · rw [show (-10 : Int32) = -nI 10 from rfl, sb_nlt (by decide) (by omega)]
    omega
theorem gc_sI_same {f a : Nat} {v : Int32} (h : v = gc_I σ f a) : gc_sI σ f a v = σ := by
  have : (fun g b => if g = f ∧ b = a then v else gc_I σ g b) = gc_I σ := by
    funext x y
    by_cases c : x = f ∧ y = a
    · rw [if_pos c, h, c.1, c.2]
    · rw [if_neg c]
  unfold gc_sI
  rw [this]
/-- a tree is looked up -/
theorem kn_tree {x : Int32} (h : CSo θ g σ z ow TR A) (k1 : ∀ q, q < 8 → x = nI q → tr_n (zt z q) ≠ 0 → R (some (TR q)) σ) (k2 : ∀ q, q < 8 → x = nI q → tr_n (zt z q) = 0 → T (g 1) (gc_sI σ 106 (g 1) (-2))) (k3 : (x < 0 ∨ nI 8 ≤ x) → T (g 1) (gc_sI σ 106 (g 1) (-1)))
    (hn : 262 ≤ n := by omega) (hc : 3 ≤ cc := by omega) (hs : 222 ≤ ss := by omega) : gx_C (gc_O θ) (nX0_tree n cc ss) [.ref (g 0), .int x] σ (gc_Qr R T) := by
  obtain ⟨n, rfl⟩ : ∃ k, n = k + 1 := ⟨n - 1, by omega⟩
  have n3 : gc_n σ (g 3) = 8 := h.n 3
  have of : ∀ v : Int32, T (g 1) (gc_sI σ 106 (g 1) v) → gx_C (gc_O θ) (nX1_of n) (.ref (g 1) :: [.int v]) σ (gc_Pr (fun r28 σ28 => ∃ a31_2 : Nat, r28 = some a31_2 ∧ T a31_2 σ28)) := fun v hv => ec_X1_of (fun K hK => bc_X1_of_0 hK ⟨h.is 1, by rintro _ rfl; exact ⟨g 1, rfl, hv⟩⟩)
  refine ec_X0_tree (fun K hK => bc_X0_tree_0 hK ⟨h.is 0, g 3, h.ln 2 0 3, h.is 3, fun c => ?_, fun c => ⟨by omega, by rw [n3]; decide, hc, hs, fun a => bc_X0_tree_22 hK ⟨h.is 0, g 1, h.ln 0 0 1, h.is 1, of _ (k3 ?_)⟩⟩⟩)
  · rw [n3] at c
    obtain ⟨q, hq, rfl⟩ := vp_in_of c (by decide)
    rw [nI_clamp (by omega)]
    have ht := h.2.2.2.2.1.1 q hq
    by_cases c0 : tr_n (zt z q) = 0
    · rw [ht.1 c0]
      exact ⟨fun _ => ⟨by omega, by omega, by omega, fun a => bc_X0_tree_32 hK ⟨h.is 0, g 1, h.ln 0 0 1, h.is 1, of _ (k2 q hq rfl c0)⟩⟩, fun a e => absurd e (by simp)⟩
    · obtain ⟨e1, hW⟩ := ht.2 c0
      rw [e1]
      refine ⟨fun e => absurd e (by simp), fun a e => ?_⟩
      obtain rfl := Option.some.inj e
      obtain ⟨hT, ⟨ah, bh, ⟨hR, hr, _⟩, _⟩, _⟩ := hW
      have hN := (hT.2.1 0 hT.1.1).isN
      refine ⟨hR.1, A q 0, hr, hN, hN, ?_⟩
      rintro _ rfl
      rw [gc_sI_same (Int32.add_zero _)]
      exact k1 q hq rfl c0
  · rw [n3] at c
    by_cases c1 : x < 0
    · exact Or.inl c1
    · obtain ⟨j, h1, rfl⟩ := nI_of c1
      refine Or.inr ?_
      rw [nI_leI (by decide) h1]
      refine Nat.not_lt.mp (fun z => c (vp_in_nI z (by decide)))
end CS
