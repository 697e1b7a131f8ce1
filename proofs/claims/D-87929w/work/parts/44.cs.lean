/-! THE COMPONENT MEETS THE SPECIFICATION: the small methods -/
theorem nI_ix {x : Int32} {n : Nat} (hn : n < 2 ^ 31) (h0 : ¬ x < 0) (h : ¬ nI n ≤ x) : ∃ j, j < n ∧ x = nI j := by
  obtain ⟨j, h1, rfl⟩ := nI_of h0
  rw [nI_leI hn h1] at h
  exact ⟨j, by omega, rfl⟩
section CS
variable {θ : gc_T} {g : Nat → Nat} {σ : gc_S} {z z' : zz} {ow TR : Nat → Nat} {A : Nat → Nat → Nat}
/-- new cells alone -/
theorem CSo.ext {σ1 : gc_S} {ow1 : Nat → Nat} (hθ : cTh θ) (h : CSo θ g σ z ow TR A) (k : cx θ (fun _ => False) σ σ1) (hw : ∀ x, x ∈ gc_d σ → ow1 x = ow x) (ho : oc σ1 ow1) : CSo θ g σ1 z ow1 TR A := by
  obtain ⟨⟨n1, n2⟩, ⟨g1, g2, g3, g4, g5⟩, ⟨f1, f2, f3, f4, f5, f6, f7, f8, f9⟩, ⟨o1, o2⟩, ⟨t1, t2⟩, ⟨⟨c1, l1⟩, c2, l2⟩⟩ := id h
  have nn : ∀ j, role j → cs_ σ σ1 (g j) := fun j hj => k.2.2.2 (g j) (Or.inl (g1 j hj).1.1) (fun z => z)
  have E : ∀ i, i < 26 → gc_E σ1 (g i) = gc_E σ (g i) := fun i h2 => (nn i (Or.inl h2)).2.2.1
  have I : ∀ f i, i < 26 → f ≠ 809 → gc_I σ1 f (g i) = gc_I σ f (g i) := fun f i h2 h3 => (nn i (Or.inl h2)).2.2.2.2.1 f h3
  refine ⟨⟨?_, ?_⟩, ⟨fun j hj => ⟨k.is (g1 j hj).1, fun hk => ?_⟩, fun x hx => ?_, fun j hj => ?_, fun j hj => ?_, g5⟩, ⟨?_, ?_, ?_, ?_, ?_, ?_, ?_, ?_, ?_⟩, ⟨ho, fun i hi => ?_⟩, ⟨fun p hp => ?_, t2⟩, ⟨c1, ?_⟩, c2, ?_⟩
  · rw [(k.2.2.1 _ (Or.inr hθ.1)).2]; exact n1
  · rw [(k.2.2.1 _ (Or.inr hθ.2)).2]; exact n2
  · rw [(k.2.2.1 _ (Or.inl (g1 j hj).1.1)).2]; exact (g1 j hj).2 hk
  · rw [(nn _ (Or.inl (lk_ok x hx).2)).2.2.2.2.2]; exact g2 x hx
  · rw [(nn 10 (Or.inl (by decide))).2.2.2.1]; exact g3 j hj
  · rw [(nn 11 (Or.inl (by decide))).2.2.2.1]; exact g4 j hj
  · unfold fA; rw [I 3 0 (by decide) (by decide), I 5 0 (by decide) (by decide), E 4 (by decide)]; exact f1
  · unfold fW; rw [I 301 6 (by decide) (by decide), E 7 (by decide)]; exact f2
  · unfold fC; rw [E 9 (by decide)]; exact f3
  · unfold fF; rw [E 2 (by decide)]; exact f4
  · unfold fQ; rw [I 13 0 (by decide) (by decide), E 21 (by decide), E 22 (by decide)]; exact f5
  · unfold fD; rw [I 17 0 (by decide) (by decide), E 23 (by decide), E 24 (by decide), E 25 (by decide)]; exact f6
  · unfold fM; rw [I 12 0 (by decide) (by decide), I 14 0 (by decide) (by decide)]; exact f7
  · unfold fX; rw [I 603 16 (by decide) (by decide), E 18 (by decide), E 19 (by decide)]; exact f8
  · unfold fG; rw [I 11 0 (by decide) (by decide)]; exact f9
  · rw [hw _ (g1 i hi).1.1]; exact o2 i hi
  · rw [(nn 3 (Or.inl (by decide))).2.2.2.1]
    exact ⟨(t1 p hp).1, fun z0 => ⟨((t1 p hp).2 z0).1, ((t1 p hp).2 z0).2.cx hθ k (fun q e => e.elim) hw (fun _ z => z)⟩⟩
  · exact l1.cx hθ k (fun q e _ => e.elim) (fun q hq e => by rw [hw q hq]; exact e)
  · exact l2.cx hθ k (fun q e _ => e.elim) (fun q hq e => by rw [hw q hq]; exact e)
/-- a tree comes into a place -/
theorem CSo.set {q tr : Nat} {t : tr_} {B : Nat → Nat} (hθ : cTh θ) (h : CSo θ g σ z ow TR A) (hW : cW θ σ ow (cLg g) tr t B) (hf : ∀ p, p < 8 → tr_n (zt z p) ≠ 0 → p ≠ q → TR p ≠ tr ∧ ∀ i j, i < tr_n (zt z p) → j < tr_n t → A p i ≠ B j) :
    CSo θ g (gc_sQ σ (g 3) q (some tr)) (z_t z q t) ow (fun p => if p = q then tr else TR p) (fun p => if p = q then B else A p) := by
  obtain ⟨⟨n1, n2⟩, ⟨g1, g2, g3, g4, g5⟩, hF, ⟨o1, o2⟩, ⟨t1, t2⟩, ⟨⟨c1, l1⟩, c2, l2⟩⟩ := id h
  have k := cx_sQ (θ := θ) σ (g 3) q (some tr)
  have r3 : role 3 := Or.inl (by decide)
  have n0 := hW.1.1.1
  refine ⟨⟨n1, n2⟩, ⟨g1, g2, fun j hj => ?_, fun j hj => ?_, g5⟩, hF, ⟨o1, o2⟩, ⟨fun p hp => ?_, fun p p' hp hp' hne => ?_⟩, ⟨c1, ?_⟩, c2, ?_⟩
  · rw [rd_Q_sQ, if_neg (fun z => h.ne (i := 10) (j := 3) (by decide) (Or.inl (by decide)) r3 z.1)]; exact g3 j hj
  · rw [rd_Q_sQ, if_neg (fun z => h.ne (i := 11) (j := 3) (by decide) (Or.inl (by decide)) r3 z.1)]; exact g4 j hj
  · show (tr_n (if p = q then t else zt z p) = 0 → _) ∧ (tr_n (if p = q then t else zt z p) ≠ 0 → gc_Q _ (g 3) p = some (if p = q then tr else TR p) ∧ cW θ _ ow (cLg g) (if p = q then tr else TR p) (if p = q then t else zt z p) (if p = q then B else A p))
    rw [rd_Q_sQ]
    by_cases c : p = q
    · rw [if_pos c, if_pos ⟨rfl, c⟩, if_pos c, if_pos c]
      refine ⟨fun e => by omega, fun _ => ⟨rfl, hW.cx hθ k (fun x e => ?_) (fun _ _ => rfl) (fun _ z => z)⟩⟩
      rw [e]; exact h.tn hW r3
    · rw [if_neg c, if_neg (fun z => c z.2), if_neg c, if_neg c]
      refine ⟨(t1 p hp).1, fun z0 => ⟨((t1 p hp).2 z0).1, ((t1 p hp).2 z0).2.cx hθ k (fun x e => ?_) (fun _ _ => rfl) (fun _ z => z)⟩⟩
      rw [e]; exact h.tn ((t1 p hp).2 z0).2 r3
  · show tr_n (if p = q then t else zt z p) ≠ 0 → tr_n (if p' = q then t else zt z p') ≠ 0 → (if p = q then tr else TR p) ≠ (if p' = q then tr else TR p') ∧ ∀ i j, i < tr_n (if p = q then t else zt z p) → j < tr_n (if p' = q then t else zt z p') → (if p = q then B else A p) i ≠ (if p' = q then B else A p') j
    by_cases c : p = q
    · have c' : p' ≠ q := fun y => hne (c.trans y.symm)
      rw [if_pos c, if_neg c', if_pos c, if_neg c', if_pos c, if_neg c']
      intro e1 e2
      have := hf p' hp' e2 c'
      exact ⟨Ne.symm this.1, fun i j hi hj => Ne.symm (this.2 j i hj hi)⟩
    · by_cases c' : p' = q
      · rw [if_neg c, if_pos c', if_neg c, if_pos c', if_neg c, if_pos c']
        intro e1 e2
        exact hf p hp e1 c
      · rw [if_neg c, if_neg c', if_neg c, if_neg c', if_neg c, if_neg c']
        exact t2 p p' hp hp' hne
  · refine l1.cx hθ k (fun x e _ => ?_) (fun _ _ e => e)
    rw [e, o2 3 r3]
    exact h.ne (by decide) r3 (Or.inl (by decide))
  · refine l2.cx hθ k (fun x e _ => ?_) (fun _ _ e => e)
    rw [e, o2 3 r3]
    exact h.ne (by decide) r3 (Or.inl (by decide))
theorem CSo.clr {q : Nat} (hθ : cTh θ) (h : CSo θ g σ z ow TR A) : CSo θ g (gc_sQ σ (g 3) q none) (z_t z q tr_0) ow TR A := by
  obtain ⟨⟨n1, n2⟩, ⟨g1, g2, g3, g4, g5⟩, hF, ⟨o1, o2⟩, ⟨t1, t2⟩, ⟨⟨c1, l1⟩, c2, l2⟩⟩ := id h
  have k := cx_sQ (θ := θ) σ (g 3) q none
  have r3 : role 3 := Or.inl (by decide)
  refine ⟨⟨n1, n2⟩, ⟨g1, g2, fun j hj => ?_, fun j hj => ?_, g5⟩, hF, ⟨o1, o2⟩, ⟨fun p hp => ?_, fun p p' hp hp' hne => ?_⟩, ⟨c1, ?_⟩, c2, ?_⟩
  · rw [rd_Q_sQ, if_neg (fun z => h.ne (i := 10) (j := 3) (by decide) (Or.inl (by decide)) r3 z.1)]; exact g3 j hj
  · rw [rd_Q_sQ, if_neg (fun z => h.ne (i := 11) (j := 3) (by decide) (Or.inl (by decide)) r3 z.1)]; exact g4 j hj
  · show (tr_n (if p = q then tr_0 else zt z p) = 0 → _) ∧ (tr_n (if p = q then tr_0 else zt z p) ≠ 0 → gc_Q _ (g 3) p = some (TR p) ∧ cW θ _ ow (cLg g) (TR p) (if p = q then tr_0 else zt z p) (A p))
    rw [rd_Q_sQ]
    by_cases c : p = q
    · rw [if_pos c, if_pos ⟨rfl, c⟩]
      exact ⟨fun e => rfl, fun e => absurd rfl e⟩
    · rw [if_neg c, if_neg (fun z => c z.2)]
      refine ⟨(t1 p hp).1, fun z0 => ⟨((t1 p hp).2 z0).1, ((t1 p hp).2 z0).2.cx hθ k (fun x e => ?_) (fun _ _ => rfl) (fun _ z => z)⟩⟩
      rw [e]; exact h.tn ((t1 p hp).2 z0).2 r3
  · show tr_n (if p = q then tr_0 else zt z p) ≠ 0 → tr_n (if p' = q then tr_0 else zt z p') ≠ 0 → TR p ≠ TR p' ∧ ∀ i j, i < tr_n (if p = q then tr_0 else zt z p) → j < tr_n (if p' = q then tr_0 else zt z p') → A p i ≠ A p' j
    by_cases c : p = q
    · rw [if_pos c]; exact fun e => absurd rfl e
    · by_cases c' : p' = q
      · rw [if_pos c']; exact fun _ e => absurd rfl e
      · rw [if_neg c, if_neg c']
        exact t2 p p' hp hp' hne
  · refine l1.cx hθ k (fun x e _ => ?_) (fun _ _ e => e)
    rw [e, o2 3 r3]
    exact h.ne (by decide) r3 (Or.inl (by decide))
  · refine l2.cx hθ k (fun x e _ => ?_) (fun _ _ e => e)
    rw [e, o2 3 r3]
    exact h.ne (by decide) r3 (Or.inl (by decide))
theorem CSo.prc {a v : Nat} (hθ : cTh θ) (h : CSo θ g σ z ow TR A) : CSo θ g (gc_sE σ (g 9) a (nI v)) (z_c z a v) ow TR A := by
  refine h.st hθ (i := 9) (Or.inl (by decide)) (by decide) (by decide) (by decide) (by decide) (by decide) (cx_sE σ (g 9) a _) rfl rfl rfl ?_
  obtain ⟨f1, f2, f3, f4, f5, f6, f7, f8, f9⟩ := h.2.2.1
  have e : ∀ j, j ≠ 9 → j < 26 → gc_E (gc_sE σ (g 9) a (nI v)) (g j) = gc_E σ (g j) := fun j h1 h2 => eE (h.ne h1 (Or.inl h2) (Or.inl (by decide)))
  refine ⟨?_, ?_, fun b hb => ?_, ?_, ?_, ?_, f7, ?_, f9⟩
  · unfold fA; rw [e 4 (by decide) (by decide)]; exact f1
  · unfold fW; rw [e 7 (by decide) (by decide)]; exact f2
  · rw [rd_E_sE]
    show _ = nI (if b = a then v else zc z b)
    by_cases c : b = a
    · rw [if_pos ⟨rfl, c⟩, if_pos c]
    · rw [if_neg (fun y => c y.2), if_neg c]; exact f3 b hb
  · unfold fF; rw [e 2 (by decide) (by decide)]; exact f4
  · unfold fQ; rw [e 21 (by decide) (by decide), e 22 (by decide) (by decide)]; exact f5
  · unfold fD; rw [e 23 (by decide) (by decide), e 24 (by decide) (by decide), e 25 (by decide) (by decide)]; exact f6
  · unfold fX; rw [e 18 (by decide) (by decide), e 19 (by decide) (by decide)]; exact f8
variable {P : Int32 → gc_S → Prop} {c n cc ss : Nat}
theorem kn_size {x : Int32} (hθ : cTh θ) (h : CSo θ g σ z ow TR A) (hs : sp_size x z (cz θ g P)) (hn : 300 ≤ n := by omega) (hc : 3000 ≤ cc := by omega) (hl : 30000 ≤ ss := by omega) : gx_C (gc_O θ) (nX0_size n cc ss) [.ref (g 0), .int x] σ (gc_Pi P) := by
  obtain ⟨n, rfl⟩ : ∃ k, n = k + 1 := ⟨n - 1, by omega⟩
  refine ec_X0_size (fun K hK => bc_X0_size_0 hK ⟨3, 222, ⟨by omega, by omega⟩, h.is 0, kn_tree h (fun q hq e n0 => ⟨TR q, rfl, ?_⟩) (fun q hq e n0 => ⟨h.is 1, bc_X0_size_9 hK ⟨h.is 0, kn_fnd hθ h ((hs.1 q hq e).1 n0)⟩⟩) (fun a => ⟨h.is 1, bc_X0_size_9 hK ⟨h.is 0, kn_fnd hθ h (hs.2 a)⟩⟩)⟩)
  obtain ⟨_, ⟨ah, bh, ⟨hR, _, g3, _⟩, _⟩, _⟩ := ((h.2.2.2.2.1.1 q hq).2 n0).2
  refine ⟨hR.1, ?_⟩
  rw [g3]
  exact (hs.1 q hq e).2 n0 σ ⟨_, _, _, h⟩
theorem kn_letter {x : Int32} (hz : zok c z) (h : CSo θ g σ z ow TR A) (hs : sp_letter x z (cz θ g P)) : gx_C (gc_O θ) (nX0_letter n) [.ref (g 0), .int x] σ (gc_Pi P) := by
  have hl := hz.2.2.2.2.1
  have hw := h.2.2.1.2.1
  have n7 : gc_n σ (g 7) = 800 := h.n 7
  have bad : (x < 0 ∨ nI (zw z).length ≤ x) → P (-1) σ := fun a => hs.2 (nI_out (by omega) a) σ ⟨_, _, _, h⟩
  refine ec_X0_letter (fun K hK => bc_X0_letter_0 hK ⟨fun a => bc_X0_letter_27 hK (bad (Or.inl a)), fun a => ⟨h.is 0, g 6, h.ln 7 0 6, h.is 6, ?_⟩⟩)
  rw [hw.1]
  refine ⟨fun b => bc_X0_letter_27 hK (bad (Or.inr b)), fun b => ⟨h.is 0, h.is 6, g 7, h.ln 300 6 7, h.is 7, ?_⟩⟩
  obtain ⟨j, hj, rfl⟩ := nI_ix (by omega) a b
  rw [n7, nI_clamp (by omega), hw.2 j hj]
  exact ⟨vp_in_nI (by omega) (by decide), hs.1 j hj rfl σ ⟨_, _, _, h⟩⟩
theorem kn_acts (h : CSo θ g σ z ow TR A) (hs : sp_acts z (cz θ g P)) : gx_C (gc_O θ) (nX0_acts n) [.ref (g 0)] σ (gc_Pi P) :=
  ec_X0_acts (fun K hK => bc_X0_acts_0 hK ⟨h.is 0, by rw [h.2.2.1.2.2.2.2.2.1.1]; exact hs σ ⟨_, _, _, h⟩⟩)
theorem kn_merged (h : CSo θ g σ z ow TR A) (hs : sp_merged z (cz θ g P)) : gx_C (gc_O θ) (nX0_merged n) [.ref (g 0)] σ (gc_Pi P) :=
  ec_X0_merged (fun K hK => bc_X0_merged_0 hK ⟨h.is 0, by rw [h.2.2.1.2.2.2.2.2.2.2.2]; exact hs σ ⟨_, _, _, h⟩⟩)
theorem kn_like (hθ : cTh θ) (hz : zok c z) (h : CSo θ g σ z ow TR A) (hs : sp_like z (cz θ g P)) (hn : 300 ≤ n := by omega) : gx_C (gc_O θ) (nX0_like n) [.ref (g 0)] σ (gc_Pi P) := by
  obtain ⟨n, rfl⟩ : ∃ k, n = k + 1 := ⟨n - 1, by omega⟩
  have hm := h.2.2.1.2.2.2.2.2.2.1
  have hq := h.2.2.1.2.2.2.2.1
  have h60 := hz.2.2.2.2.2.2.2.2.2.1
  refine ec_X0_like (fun K hK => bc_X0_like_0 hK ⟨h.is 0, h.is 0, ?_⟩)
  by_cases c0 : zm z = 0
  · rw [hm.1 c0]
    exact kn_need h (fun a => absurd rfl a) (fun _ => ⟨h.is 1, bc_X0_like_24 hK ⟨h.is 0, kn_fnd hθ h (hs.1 c0)⟩⟩)
  · rw [(hm.2 c0).1]
    refine kn_need h (fun _ => ⟨h.is 0, h.is 0, ?_⟩) (fun a => absurd a (by decide))
    rw [(hm.2 c0).2, hq.1]
    exact ⟨nI_ne0 (by omega) (by omega), hs.2 c0 σ ⟨_, _, _, h⟩⟩
theorem kn_clear {x : Int32} (hθ : cTh θ) (h : CSo θ g σ z ow TR A) (hs : sp_clear x z (cz θ g P)) (hn : 300 ≤ n := by omega) : gx_C (gc_O θ) (nX0_clear n) [.ref (g 0), .int x] σ (gc_Pi P) := by
  obtain ⟨n, rfl⟩ : ∃ k, n = k + 1 := ⟨n - 1, by omega⟩
  have n3 : gc_n σ (g 3) = 8 := h.n 3
  refine ec_X0_clear (fun K hK => bc_X0_clear_0 hK (kc_isPlace (fun p hp e => ⟨h.is 0, kn_need h (fun _ => ?_) (fun a => absurd a (by decide))⟩) (fun a => ⟨h.is 0, kn_need h (fun b => absurd rfl b) (fun _ => ⟨h.is 1, bc_X0_clear_33 hK ⟨h.is 0, kn_fnd hθ h (hs.2 a)⟩⟩)⟩)))
  subst e
  have hv : vp_in (nI p) (gc_n σ (g 3)) := by rw [n3]; exact vp_in_nI hp (by decide)
  have ht := h.2.2.2.2.1.1 p hp
  have hk := hs.1 p hp rfl
  rw [nI_clamp (by omega)] at *
  refine ⟨h.is 0, g 3, h.ln 2 0 3, h.is 3, hv, fun e => ⟨h.is 0, h.is 3, hv, fun v hv => absurd hv (by simp), ?_⟩, fun e => ⟨h.is 0, h.is 3, hv, fun v hv => absurd hv (by simp), ?_⟩⟩
  · rintro _ rfl
    refine hk.1 ?_ _ ⟨_, _, _, h.clr hθ⟩
    refine Classical.byContradiction (fun z0 => ?_)
    rw [(ht.2 z0).1] at e
    exact absurd e (by simp)
  · rintro _ rfl
    exact hk.2 (fun z0 => e (ht.1 z0)) _ ⟨_, _, _, h.clr hθ⟩
theorem kn_copy {x y : Int32} (hθ : cTh θ) (hz : zok c z) (h : CSo θ g σ z ow TR A) (hs : sp_copy x y z (cz θ g P)) (hn : 300 ≤ n := by omega) (hc : 3000 ≤ cc := by omega) (hl : 30000 ≤ ss := by omega) : gx_C (gc_O θ) (nX0_copy n cc ss) [.ref (g 0), .int x, .int y] σ (gc_Pi P) := by
  obtain ⟨n, rfl⟩ : ∃ k, n = k + 1 := ⟨n - 1, by omega⟩
  refine ec_X0_copy (fun K hK => bc_X0_copy_0 hK ⟨3, 222, ⟨by omega, by omega⟩, h.is 0, kn_tree h (fun q hq e n0 => ?_) (fun q hq e n0 => ⟨h.is 1, bc_X0_copy_30 hK ⟨h.is 0, kn_fnd hθ h ((hs.1 q hq e).1 n0)⟩⟩) (fun a => ⟨h.is 1, bc_X0_copy_30 hK ⟨h.is 0, kn_fnd hθ h (hs.2 a)⟩⟩)⟩)
  have hk := (hs.1 q hq e).2 n0
  refine kc_isPlace (fun p hp e2 => ⟨h.is 0, kn_need h (fun _ => ?_) (fun a => absurd a (by decide))⟩) (fun a => ⟨h.is 0, kn_need h (fun b => absurd rfl b) (fun _ => ⟨h.is 1, bc_X0_copy_30 hK ⟨h.is 0, kn_fnd hθ h (hk.2 a)⟩⟩)⟩)
  subst e e2
  have hW := ((h.2.2.2.2.1.1 q hq).2 n0).2
  have iT : gc_is σ (TR q) 7 := by
    obtain ⟨_, ⟨ah, bh, ⟨hR, _⟩, _⟩, _⟩ := hW
    exact hR.1
  refine ⟨h.is 0, TR q, rfl, 100, 2300, ⟨by omega, by omega⟩, iT, kc_copy hθ h.2.2.2.1.1 h.1.2 hW (hz.t hq n0).sm (fun σ1 ow1 tr' B x1 w1 oc1 hW1 hfr hfB => ?_)⟩
  have h1 := h.ext hθ x1 w1 oc1
  have n3 : gc_n σ1 (g 3) = 8 := h1.n 3
  have iT1 : gc_is σ1 tr' 7 := by
    obtain ⟨_, ⟨ah, bh, ⟨hR, _⟩, _⟩, _⟩ := hW1
    exact hR.1
  refine ⟨g 3, h.ln 2 0 3, h1.is 3, by rw [n3]; exact vp_in_nI hp (by decide), fun v hv => by obtain rfl := Option.some.inj hv; exact iT1, ?_⟩
  rw [nI_clamp (by omega)]
  rintro _ rfl
  refine ⟨x1.is iT, ?_⟩
  have e3 : gc_I (gc_sQ σ1 (g 3) p (some tr')) 703 (TR q) = nI (tr_n (zt z q)) := by
    obtain ⟨_, ⟨ah, bh, ⟨_, _, g3, _⟩, _⟩, _⟩ := ((h1.2.2.2.2.1.1 q hq).2 n0).2
    exact g3
  rw [e3]
  refine hk.1 p hp rfl _ ⟨_, _, _, h1.set hθ hW1 (fun p' hp' z0 _ => ⟨fun y => hfr (y ▸ ?_), fun i j hi hj y => hfB j hj (y ▸ ?_)⟩)⟩
  · obtain ⟨_, ⟨ah, bh, ⟨hR, _⟩, _⟩, _⟩ := ((h.2.2.2.2.1.1 p' hp').2 z0).2
    exact hR.1.1
  · exact (((h.2.2.2.2.1.1 p' hp').2 z0).2.1.2.1 i hi).2.1
end CS
