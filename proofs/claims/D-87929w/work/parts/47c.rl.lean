/-! relabel() and retext(): the component meets the specification -/
theorem gc_sR_back {σ : gc_S} {f a : Nat} {x : Option Nat} : gc_sR (gc_sR σ f a x) f a (gc_R σ f a) = σ := by
  have : (fun g b => if g = f ∧ b = a then gc_R σ f a else (if g = f ∧ b = a then x else gc_R σ g b)) = gc_R σ := by
    funext u v
    by_cases c : u = f ∧ v = a
    · rw [if_pos c, c.1, c.2]
    · rw [if_neg c, if_neg c]
  show (gc_d σ, gc_k σ, gc_I σ, (fun g b => if g = f ∧ b = a then gc_R σ f a else (if g = f ∧ b = a then x else gc_R σ g b)), gc_E σ, gc_Q σ, gc_n σ) = σ
  rw [this]
section CR
variable {θ : gc_T} {g : Nat → Nat} {σ : gc_S} {z z' : zz} {ow TR : Nat → Nat} {A : Nat → Nat → Nat} {P : Int32 → gc_S → Prop} {R : Option Nat → gc_S → Prop} {T : Nat → gc_S → Prop} {L : Nat → Prop} {c n cc ss : Nat}
theorem cW_set {tr : Nat} {t t' : tr_} {B : Nat → Nat} {i f b : Nat} (hθ : cTh θ) (h : cW θ σ ow L tr t B) (hi : i < tr_n t) (hf : f = 801 ∨ f = 802) (hn : tr_n t' = tr_n t) (hd : tr_d t' = tr_d t) (hr : ∀ k, k < tr_n t → k ≠ i → tr_r t' k = tr_r t k) (hN : cN θ (gc_sR σ f (B i) (some b)) ow L (B i) (tr_r t' i) ((dl_cl (tr_d t) (tr_n t) i).map B)) : cW θ (gc_sR σ f (B i) (some b)) ow L tr t' B := by
  obtain ⟨⟨h1, h2, h3, h4⟩, ⟨ah, bh, ⟨⟨r1, r2, r3, r4, r5, r6, r7, r8⟩, g2, g3, g4⟩, g5, g6⟩, h5, h6⟩ := h
  have k := cx_sR (θ := θ) σ f (B i) (some b)
  have eR : ∀ u v, u ≠ 801 → u ≠ 802 → gc_R (gc_sR σ f (B i) (some b)) u v = gc_R σ u v := fun u v q1 q2 => by rw [rd_R_sR, if_neg (fun y => by have := y.1; omega)]
  unfold cW cT cK nb_at
  rw [hn, hd]
  refine ⟨⟨h1, fun j hj => ?_, fun j j0 hj => by rw [eR 803 _ (by decide) (by decide)]; exact h3 j j0 hj, h4⟩, ⟨ah, bh, ⟨⟨r1, by rw [eR 701 _ (by decide) (by decide)]; exact r2, by rw [eR 702 _ (by decide) (by decide)]; exact r3, r4, r5, r6, r7, r8⟩, by rw [eR 700 _ (by decide) (by decide)]; exact g2, g3, g4⟩, g5, g6⟩, h5, by rw [eR 803 _ (by decide) (by decide)]; exact h6⟩
  by_cases c : j = i
  · subst c; exact hN
  · rw [hr j hj c]
    refine (h2 j hj).cx hθ k (fun q e => ?_) (fun _ _ e => e) (fun _ z => z)
    rw [e]
    have hNi := h2 i hi
    refine ⟨by rw [hNi.1]; exact fun y => c (h4 i j hi hj y).symm, fun y => ?_⟩
    have := hNi.isN.2
    omega
theorem cN_l {a b : Nat} {r : rw_} {ch : List Nat} {l : List Nat} (h : cN θ σ ow L a r ch) (hb : cB θ σ L b l) : cN θ (gc_sR σ 801 a (some b)) ow L a (rw_a r, rw_k r, rw_d r, l, rw_t r) ch := by
  obtain ⟨h1, h2, h3, h4, h5, ⟨b1, h6, h7⟩, ⟨b2, h8, h9⟩, c, h10, g1, g2, g3, r', g4, g5⟩ := h
  exact ⟨h1, h2, h3, h4, h5, ⟨b, by rw [rd_R_sR, if_pos ⟨rfl, rfl⟩], hb⟩, ⟨b2, by rw [rd_R_sR, if_neg (by simp)]; exact h8, h9⟩, c, by rw [rd_R_sR, if_neg (by simp)]; exact h10, g1, g2, g3, r', by rw [rd_R_sR, if_neg (by simp)]; exact g4, g5⟩
theorem cN_t {a b : Nat} {r : rw_} {ch : List Nat} {l : List Nat} (h : cN θ σ ow L a r ch) (hb : cB θ σ L b l) : cN θ (gc_sR σ 802 a (some b)) ow L a (rw_a r, rw_k r, rw_d r, rw_l r, l) ch := by
  obtain ⟨h1, h2, h3, h4, h5, ⟨b1, h6, h7⟩, ⟨b2, h8, h9⟩, c, h10, g1, g2, g3, r', g4, g5⟩ := h
  exact ⟨h1, h2, h3, h4, h5, ⟨b1, by rw [rd_R_sR, if_neg (by simp)]; exact h6, h7⟩, ⟨b, by rw [rd_R_sR, if_pos ⟨rfl, rfl⟩], hb⟩, c, by rw [rd_R_sR, if_neg (by simp)]; exact h10, g1, g2, g3, r', by rw [rd_R_sR, if_neg (by simp)]; exact g4, g5⟩
theorem cW_l {tr : Nat} {t : tr_} {B : Nat → Nat} {i b : Nat} {l : List Nat} (hθ : cTh θ) (h : cW θ σ ow L tr t B) (hi : i < tr_n t) (hb : cB θ σ L b l) : cW θ (gc_sR σ 801 (B i) (some b)) ow L tr (tr_sl t i l) B := by
  refine cW_set hθ h hi (Or.inl rfl) rfl (tr_sl_d t i l) (fun k _ e => if_neg e) ?_
  have e : tr_r (tr_sl t i l) i = (tr_a t i, tr_k t i, tr_d t i, l, tr_t t i) := if_pos rfl
  rw [e]
  exact cN_l (h.1.2.1 i hi) hb
theorem cW_t {tr : Nat} {t : tr_} {B : Nat → Nat} {i b : Nat} {l : List Nat} (hθ : cTh θ) (h : cW θ σ ow L tr t B) (hi : i < tr_n t) (hb : cB θ σ L b l) : cW θ (gc_sR σ 802 (B i) (some b)) ow L tr (tr_st t i l) B := by
  refine cW_set hθ h hi (Or.inr rfl) rfl (tr_st_d t i l) (fun k _ e => if_neg e) ?_
  have e : tr_r (tr_st t i l) i = (tr_a t i, tr_k t i, tr_d t i, tr_l t i, l) := if_pos rfl
  rw [e]
  exact cN_t (h.1.2.1 i hi) hb
theorem CSo.nodeR {q i f : Nat} {x : Option Nat} {t' : tr_} (hθ : cTh θ) (h : CSo θ g σ z ow TR A) (hf : f = 801 ∨ f = 802) (hq : q < 8) (n0 : tr_n (zt z q) ≠ 0) (hi : i < tr_n (zt z q)) (hn : tr_n t' = tr_n (zt z q)) (hW' : cW θ (gc_sR σ f (A q i) x) ow (cLg g) (TR q) t' (A q)) : CSo θ g (gc_sR σ f (A q i) x) (z_t z q t') ow TR A := by
  obtain ⟨⟨n1, n2⟩, ⟨g1, g2, g3, g4, g5⟩, hF, ⟨o1, o2⟩, ⟨t1, t2⟩, ⟨⟨c1, l1⟩, c2, l2⟩⟩ := id h
  have k := cx_sR (θ := θ) σ f (A q i) x
  have hNi := ((t1 q hq).2 n0).2.1.2.1 i hi
  have hkn : ∀ j, role j → A q i ≠ g j := fun j hj e => by
    have q1 := hNi.isN.2
    rw [e, (g1 j hj).1.2] at q1
    exact (gk_tree j hj).2.1 q1
  have lk2 : ∀ x ∈ lk, x.1 ≠ 801 ∧ x.1 ≠ 802 := by decide
  refine ⟨⟨n1, n2⟩, ⟨g1, fun x hx => by rw [rd_R_sR, if_neg (fun y => by have := lk2 x hx; have := y.1; omega)]; exact g2 x hx, g3, g4, g5⟩, hF, ⟨o1, o2⟩, ⟨fun p hp => ?_, fun p p' hp hp' hne => ?_⟩, ⟨c1, ?_⟩, c2, ?_⟩
  · show (tr_n (if p = q then t' else zt z p) = 0 → _) ∧ (tr_n (if p = q then t' else zt z p) ≠ 0 → gc_Q σ (g 3) p = some (TR p) ∧ cW θ _ ow (cLg g) (TR p) (if p = q then t' else zt z p) (A p))
    by_cases cp : p = q
    · subst cp
      rw [if_pos rfl]
      exact ⟨fun e => absurd (hn ▸ e) n0, fun _ => ⟨((t1 p hp).2 n0).1, hW'⟩⟩
    · rw [if_neg cp]
      refine ⟨(t1 p hp).1, fun z0 => ⟨((t1 p hp).2 z0).1, ((t1 p hp).2 z0).2.cx hθ k (fun y e => ?_) (fun _ _ => rfl) (fun _ z => z)⟩⟩
      rw [e, hNi.1]
      have hd := t2 q p hq hp (Ne.symm cp) n0 z0
      refine ⟨fun y => ?_, fun j hj => hd.2 i j hi hj, fun y => ?_⟩
      · obtain ⟨_, ⟨ah, bh, ⟨hR, _⟩, _⟩, _⟩ := ((t1 p hp).2 z0).2
        have q1 := hNi.isN.2
        rw [y, hR.1.2] at q1
        omega
      · have q1 := hNi.isN.2
        omega
  · have en : ∀ p, tr_n ((fun i => if i = q then t' else zt z i) p) = tr_n (zt z p) := fun p => by
      show tr_n (if p = q then t' else zt z p) = _
      by_cases cp : p = q
      · rw [if_pos cp, cp]; exact hn
      · rw [if_neg cp]
    show tr_n ((fun i => if i = q then t' else zt z i) p) ≠ 0 → tr_n ((fun i => if i = q then t' else zt z i) p') ≠ 0 → TR p ≠ TR p' ∧ ∀ i j, i < tr_n ((fun i => if i = q then t' else zt z i) p) → j < tr_n ((fun i => if i = q then t' else zt z i) p') → A p i ≠ A p' j
    rw [en p, en p']
    exact t2 p p' hp hp' hne
  · refine l1.cx hθ k (fun y e _ => ?_) (fun _ _ e => e)
    rw [e, hNi.1]; exact hkn 17 (Or.inl (by decide))
  · refine l2.cx hθ k (fun y e _ => ?_) (fun _ _ e => e)
    rw [e, hNi.1]; exact hkn 20 (Or.inl (by decide))
theorem kn_node2 {q : Nat} {x : Int32} {k : Nat → Prop} {e : Prop} (hz : zok c z) (h : CSo θ g σ z ow TR A) (hq : q < 8) (n0 : tr_n (zt z q) ≠ 0) (hs : sp_named (zt z q) x k e) (k1 : ∀ i, i < tr_n (zt z q) → k i → R (some (A q i)) σ) (k0 : e → T (g 1) (gc_sI σ 106 (g 1) (-6))) (hn : 2 ≤ n := by omega) : gx_C (gc_O θ) (nX0_node_2 n) [.ref (g 0), .ref (TR q), .int x] σ (gc_Qr R T) := by
  obtain ⟨n, rfl⟩ : ∃ k, n = k + 1 := ⟨n - 1, by omega⟩
  have hW := ((h.2.2.2.2.1.1 q hq).2 n0).2
  have ho := hz.t hq n0
  have iT : gc_is σ (TR q) 7 := by
    obtain ⟨_, ⟨ah, bh, ⟨hR, _⟩, _⟩, _⟩ := hW
    exact hR.1
  refine ec_X0_node_2 (x1 := some (TR q)) (fun K hK => bc_X0_node_2_0 hK ⟨TR q, rfl, iT, kc_find hW ho.2.1 (fun i hi e1 _ => ⟨fun a => absurd a (by simp), fun _ => ⟨h.is 0, kn_need h (fun _ => k1 i hi (hs.1 i hi e1)) (fun a => absurd a (by decide))⟩⟩) (fun e1 => ⟨fun _ => ⟨h.is 0, kn_need h (fun b => absurd rfl b) (fun _ => k0 (hs.2 e1))⟩, fun a => absurd rfl a⟩)⟩)
/-- the tape is taken -/
theorem kn_taken (hθ : cTh θ) (hz : zok c z) (h : CSo θ g σ z ow TR A) (k : ∀ σ' ow' q0, CSo θ g σ' (z_p z []) ow' TR A → cB θ σ' (cLg g) q0 (zp z) → cx θ (· = g 0) σ σ' → q0 ∉ gc_d σ → (∀ x, x ∈ gc_d σ → ow' x = ow x) → R (some q0) σ') (hn : 3 ≤ n := by omega) (hc : 1 ≤ cc := by omega) (hl : 400 ≤ ss := by omega) : gx_C (gc_O θ) (nX0_taken n cc ss) [.ref (g 0)] σ (gc_Pr R) := by
  obtain ⟨n, rfl⟩ : ∃ k, n = k + 1 := ⟨n - 1, by omega⟩
  have h4 := hz.2.2.1
  have ht := h.2.2.1.1
  have n4 : gc_n σ (g 4) = 400 := h.n 4
  refine ec_X0_taken (fun K hK => bc_X0_taken_0 hK ⟨h.is 0, h.is 0, 1, 400, ⟨by omega, by omega⟩, ?_⟩)
  rw [h.ln 4 0 4, ht.2.1]
  refine kc_part (fr := 0) (to := (zp z).length) (bs := zp z) (h.is 4) (by omega) (by omega) (by omega) h4 ht.2.2 (fun σ1 q0 c1 c2 c3 c4 c5 c6 => ?_)
  rw [List.take_of_length_le (Nat.le_refl _), List.drop_zero] at c5
  have w1 : ∀ x, x ∈ gc_d σ → (fun x => if x = q0 then q0 else ow x) x = ow x := fun x hx => if_neg (fun y : x = q0 => c1 (y ▸ hx))
  have h1 := h.ext hθ c4 w1 (h.2.2.2.1.1.new c3 (Or.inr rfl))
  refine ⟨h1.is 0, ?_⟩
  rintro _ rfl
  have L0 : cLg g q0 := ⟨fun y => c1 (y ▸ (h.is 4).1), fun y => c1 (y ▸ (h.is 7).1)⟩
  have h2 : CSo θ g (gc_sI σ1 5 (g 0) 0) (z_p z []) (fun x => if x = q0 then q0 else ow x) TR A := h1.tape hθ ((cx_sI σ1 5 (g 0) 0).mono (fun _ _ e => Or.inl e)) rfl rfl rfl (fun f hf => by rw [rd_I_sI, if_neg (fun y => hf y.1)]) ⟨by rw [rd_I_sI, if_pos ⟨rfl, rfl⟩]; rfl, fun j hj => absurd hj (Nat.not_lt_zero _)⟩
  refine k _ _ q0 h2 ?_ ((c4.mono (fun _ _ e => e.elim)).trans' (cx_sI σ1 5 (g 0) 0)) c1 w1
  have : cB θ (gc_sI σ1 5 (g 0) 0) (· = q0) q0 (zp z) := c5
  exact this.mono (fun y e => e ▸ L0)
theorem kn_retext {x y : Int32} (hθ : cTh θ) (hz : zok c z) (h : CSo θ g σ z ow TR A) (hs : sp_retext x y z (cz θ g P)) (hn : 300 ≤ n := by omega) (hc : 3000 ≤ cc := by omega) (hl : 30000 ≤ ss := by omega) : gx_C (gc_O θ) (nX0_retext n cc ss) [.ref (g 0), .int x, .int y] σ (gc_Pi P) := by
  obtain ⟨n, rfl⟩ : ∃ k, n = k + 1 := ⟨n - 1, by omega⟩
  refine ec_X0_retext (fun K hK => bc_X0_retext_0 hK ⟨3, 222, ⟨by omega, by omega⟩, h.is 0, kn_tree h (fun q hq e n0 => ⟨h.is 0, ?_⟩) (fun q hq e n0 => ⟨h.is 1, bc_X0_retext_42 hK ⟨h.is 0, kn_fnd hθ h ((hs.1 q hq e).1 n0)⟩⟩) (fun a => ⟨h.is 1, bc_X0_retext_42 hK ⟨h.is 0, kn_fnd hθ h (hs.2 a)⟩⟩)⟩)
  have hk := (hs.1 q hq e).2 n0
  refine kn_node2 hz h hq n0 hk (fun i hi hk2 => ⟨1, 400, ⟨by omega, by omega⟩, h.is 0, ?_⟩) (fun a => ⟨h.is 1, bc_X0_retext_42 hK ⟨h.is 0, kn_fnd hθ h a⟩⟩)
  refine kn_taken hθ hz h (fun σ1 ow1 q0 h1 hb x1 _ w1 => ?_)
  have h4 := hz.2.2.1
  refine kc_isText hb h4 hz.2.2.2.1 (fun a1 a2 => ⟨h1.is 0, kn_need h1 (fun _ => ?_) (fun a => absurd a (by decide))⟩) (fun a => ⟨h1.is 0, kn_need h1 (fun b => absurd rfl b) (fun _ => ⟨h1.is 1, bc_X0_retext_42 hK ⟨h1.is 0, kn_fnd hθ h1 (hk2.1 a)⟩⟩)⟩)
  have hW : cW θ σ1 ow1 (cLg g) (TR q) (zt z q) (A q) := ((h1.2.2.2.2.1.1 q hq).2 n0).2
  refine ⟨A q i, rfl, (hW.1.2.1 i hi).isN, ?_⟩
  rintro _ rfl
  have h2 := h1.nodeR hθ (f := 802) (x := some q0) (t' := tr_st (zt z q) i (zp z)) (Or.inr rfl) hq n0 hi rfl (cW_t hθ hW hi hb)
  refine ⟨q0, rfl, hb.isB, ?_⟩
  show P (nI (gc_n σ1 q0)) _
  rw [hb.n]
  exact hk2.2 ⟨a1, a2⟩ _ ⟨_, _, _, h2⟩
theorem kn_relabel {x y : Int32} (hθ : cTh θ) (hz : zok c z) (h : CSo θ g σ z ow TR A) (hs : sp_relabel x y z (cz θ g P)) (hn : 300 ≤ n := by omega) (hc : 3000 ≤ cc := by omega) (hl : 30000 ≤ ss := by omega) : gx_C (gc_O θ) (nX0_relabel n cc ss) [.ref (g 0), .int x, .int y] σ (gc_Pi P) := by
  obtain ⟨n, rfl⟩ : ∃ k, n = k + 1 := ⟨n - 1, by omega⟩
  refine ec_X0_relabel (fun K hK => bc_X0_relabel_0 hK ⟨3, 222, ⟨by omega, by omega⟩, h.is 0, kn_tree h (fun q hq e n0 => ⟨h.is 0, ?_⟩) (fun q hq e n0 => ⟨h.is 1, bc_X0_relabel_95 hK ⟨h.is 0, kn_fnd hθ h ((hs.1 q hq e).1 n0)⟩⟩) (fun a => ⟨h.is 1, bc_X0_relabel_95 hK ⟨h.is 0, kn_fnd hθ h (hs.2 a)⟩⟩)⟩)
  have hk := (hs.1 q hq e).2 n0
  have ho := hz.t hq n0
  refine kn_node2 hz h hq n0 hk (fun i hi hk2 => ⟨1, 400, ⟨by omega, by omega⟩, h.is 0, ?_⟩) (fun a => ⟨h.is 1, bc_X0_relabel_95 hK ⟨h.is 0, kn_fnd hθ h a⟩⟩)
  refine kn_taken hθ hz h (fun σ1 ow1 q0 h1 hb x1 _ w1 => ?_)
  have h4 := hz.2.2.1
  refine kc_isLabel hb h4 hz.2.2.2.1 (fun a1 a2 a3 => ⟨h1.is 0, kn_need h1 (fun _ => ?_) (fun a => absurd a (by decide))⟩) (fun a => ⟨h1.is 0, kn_need h1 (fun b => absurd rfl b) (fun _ => ⟨h1.is 1, bc_X0_relabel_95 hK ⟨h1.is 0, kn_fnd hθ h1 (hk2.1 a)⟩⟩)⟩)
  have hk2 := hk2.2 ⟨a1, a2, a3⟩
  have hW : cW θ σ1 ow1 (cLg g) (TR q) (zt z q) (A q) := ((h1.2.2.2.2.1.1 q hq).2 n0).2
  have hN := hW.1.2.1 i hi
  refine ⟨A q i, rfl, hN.isN, hN.isN, ?_⟩
  rintro _ rfl
  have hW2 := cW_l hθ hW hi hb
  have h2 := h1.nodeR hθ (f := 801) (x := some q0) (t' := tr_sl (zt z q) i (zp z)) (Or.inl rfl) hq n0 hi rfl hW2
  have good : ¬ rl_bad (zt z q) i (zp z) → gc_G θ K (nX0_relabel (n + 1) cc ss) (gc_Pi P) 64 [(0, va_rf (some (g 0))), (4, va_rf (some (A q i))), (5, va_rf (some q0)), (6, va_rf (gc_R σ1 801 (A q i)))] [] (gc_sR σ1 801 (A q i) (some q0)) (cc - 3 - 1) (ss - 222 - 400) := fun hb2 => by
    refine bc_X0_relabel_64 hK (bc_X0_relabel_69 hK ⟨fun a => absurd a (by decide), fun _ => bc_X0_relabel_83 hK ⟨h2.is 0, kn_need h2 (fun _ => ⟨q0, rfl, hb.isB, ?_⟩) (fun a => absurd a (by decide))⟩⟩)
    show P (nI (gc_n σ1 q0)) _
    rw [hb.n]
    exact hk2.2 hb2 _ ⟨_, _, _, h2⟩
  refine ⟨hN.isN, ?_⟩
  have e803 : gc_R (gc_sR σ1 801 (A q i) (some q0)) 803 (A q i) = gc_R σ1 803 (A q i) := by rw [rd_R_sR, if_neg (by simp)]
  rw [e803]
  by_cases i0 : i = 0
  · have : gc_R σ1 803 (A q i) = none := by rw [i0]; exact hW.2.2.2
    rw [this]
    exact ⟨fun _ => good (fun y => by have := y.1; omega), fun b => absurd rfl b⟩
  · have hpa := hW.1.2.2.1 i (by omega) hi
    have hlt := (dl_pa_spec ho.1 (by omega) hi).1
    rw [hpa]
    have hNp := hW2.1.2.1 (dl_pa (tr_d (zt z q)) i) (show dl_pa (tr_d (zt z q)) i < tr_n (zt z q) by omega)
    refine ⟨fun b => absurd b (by simp), fun _ => ⟨hN.isN, _, rfl, hNp.isN, ?_⟩⟩
    rw [tr_sl_d] at hNp
    have ek : rw_k (tr_r (tr_sl (zt z q) i (zp z)) (dl_pa (tr_d (zt z q)) i)) = tr_k (zt z q) (dl_pa (tr_d (zt z q)) i) := by
      show rw_k (if dl_pa (tr_d (zt z q)) i = i then _ else tr_r (zt z q) (dl_pa (tr_d (zt z q)) i)) = _
      rw [if_neg (by omega)]
    have en : tr_n (tr_sl (zt z q) i (zp z)) = tr_n (zt z q) := rfl
    rw [en] at hNp
    have hin : ∀ j, j < (dl_cl (tr_d (zt z q)) (tr_n (zt z q)) (dl_pa (tr_d (zt z q)) i)).length → ((dl_cl (tr_d (zt z q)) (tr_n (zt z q)) (dl_pa (tr_d (zt z q)) i)).map (A q)).getD j 0 = A q (dl_at (tr_d (zt z q)) (tr_n (zt z q)) (dl_pa (tr_d (zt z q)) i) j) := fun j hj => by
      rw [List.getD_eq_getElem?_getD, List.getElem?_map, dl_at_get hj]
      rfl
    have htw : ls_tw ((dl_cl (tr_d (zt z q)) (tr_n (zt z q)) (dl_pa (tr_d (zt z q)) i)).map (A q)).length (fun j => tr_l (tr_sl (zt z q) i (zp z)) (dl_at (tr_d (zt z q)) (tr_n (zt z q)) (dl_pa (tr_d (zt z q)) i) j)) ↔ tr_tw1 (tr_sl (zt z q) i (zp z)) (dl_pa (tr_d (zt z q)) i) := by
      unfold ls_tw tr_tw1
      rw [List.length_map, tr_sl_d]
      exact Iff.rfl
    refine kc_clashes (l := fun j => tr_l (tr_sl (zt z q) i (zp z)) (dl_at (tr_d (zt z q)) (tr_n (zt z q)) (dl_pa (tr_d (zt z q)) i) j)) hNp (fun j hj => ?_) (fun b1 b2 => ⟨fun a => absurd a (by decide), fun _ => ?_⟩) (fun b1 => ⟨fun _ => good (fun y => b1 ⟨by rw [ek]; exact y.2.1, htw.mpr y.2.2⟩), fun a => absurd rfl a⟩)
    · rw [List.length_map] at hj
      have hat := dl_at_in ho.1 (i := dl_pa (tr_d (zt z q)) i) (by omega) hj
      have hen := (dl_en_spec (d := tr_d (zt z q)) (n := tr_n (zt z q)) (i := dl_pa (tr_d (zt z q)) i) (by omega)).2.1
      have hNj := hW2.1.2.1 (dl_at (tr_d (zt z q)) (tr_n (zt z q)) (dl_pa (tr_d (zt z q)) i) j) (show _ < tr_n (zt z q) by omega)
      rw [hin j hj]
      refine ⟨hNj.isN, hNj.2.2.2.2.2.1, ?_⟩
      show (tr_l (tr_sl (zt z q) i (zp z)) _).length ≤ 6 ∧ ∀ c ∈ tr_l (tr_sl (zt z q) i (zp z)) _, c < 256
      rw [tr_sl_l]
      by_cases cj : dl_at (tr_d (zt z q)) (tr_n (zt z q)) (dl_pa (tr_d (zt z q)) i) j = i
      · rw [if_pos cj]; exact ⟨a2, hz.2.2.2.1⟩
      · rw [if_neg cj]
        have hrw := ho.2.2.1 (dl_at (tr_d (zt z q)) (tr_n (zt z q)) (dl_pa (tr_d (zt z q)) i) j) (by omega)
        exact ⟨hrw.2.2.2.2.1, fun c hc => (hrw.2.2.2.2.2.1 c hc).lt⟩
    · refine bc_X0_relabel_69 hK ⟨fun _ => ⟨A q i, rfl, (hW2.1.2.1 i hi).isN, ?_⟩, fun a => absurd rfl a⟩
      rintro _ rfl
      rw [gc_sR_back]
      exact bc_X0_relabel_83 hK ⟨h1.is 0, kn_need h1 (fun b => absurd rfl b) (fun _ => ⟨h1.is 1, bc_X0_relabel_95 hK ⟨h1.is 0, kn_fnd hθ h1 (hk2.1 ⟨by omega, by rw [← ek]; exact b1, htw.mp b2⟩)⟩⟩)⟩
end CR
