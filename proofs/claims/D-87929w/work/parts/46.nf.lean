/-! node() and feed(): specification, model, component -/
def nd_val (t : tr_) (i : Nat) : Nat → Int32
  | 0 => nI (tr_a t i)
  | 1 => nI (tr_k t i)
  | 2 => nI (dl_cl (tr_d t) (tr_n t) i).length
  | 3 => nI (tr_d t i)
  | 4 => if i = 0 then -8 else nI (tr_a t (dl_pa (tr_d t) i))
  | 5 => nI (dl_en (tr_d t) (tr_n t) i - i)
  | 6 => nI (dl_bh (tr_d t) (tr_n t) i)
  | 7 => nI (tr_l t i).length
  | _ => nI (tr_t t i).length
def sp_node (p i w : Int32) (z : zz) (Q : zP) : Prop := sp_tree p z Q (fun q => sp_ix i (tr_n (zt z q)) (fun j => sp_ix w 9 (fun v => Q (nd_val (zt z q) j v) z) (sp_f z Q 1)) (sp_f z Q 1))
theorem nI_at {v k : Nat} (hv : v < 9) (hk : k < 9) (e : nI v = nI k) : v = k := by
  rw [nI_eq (by omega) (by omega)] at e
  exact e
section MN
variable {θ : gm_T} {P : Int32 → gm_X → Prop} {X : gm_X} {z : zz} {c : Nat}
theorem ks_node {x y w : Int32} (hz : zok c z) (h : MS X z) (hs : sp_node x y w z (mz P)) : gx_C (gm_O θ) mX7_node [.ref (gm_am θ), .int x, .int y, .int w] X (gm_Pi P) := by
  refine em_node (fun K hK => bm_node_0 hK (ks_lacks hz h hs (fun q hq e n0 hk => ?_)))
  subst e
  have hp := h.1 q hq
  have ho := hz.t hq n0
  have hmd := hp.md
  rw [nI_clamp (by omega), hp.2.1]
  refine ⟨vp_in_nI (by omega) (by decide), ks_in (by have := hp.2.2.1; omega) hk (fun i hi e hk2 => ⟨fun q => absurd q (by decide), fun _ => ?_⟩) (fun hk2 => ⟨fun _ => bm_node_45 hK (ks_fnd (f := 1) h hk2), fun q => absurd rfl q⟩)⟩
  subst e
  have h30 := hp.2.2.1
  refine ks_in (n := 9) (by decide) hk2 (fun v hv e hk3 => ⟨fun q => absurd q (by decide), fun _ => ?_⟩) (fun hk3 => ⟨fun _ => bm_node_45 hK (ks_fnd (f := 1) h hk3), fun q => absurd rfl q⟩)
  subst e
  have hk3 := hk3 X h
  have hr := (hp.2.2.2 i hi).1
  refine ⟨fun e => ?_, fun e => ?_, fun e => ?_, fun e => ?_, fun e => ?_, fun e => ?_, fun e => ?_, fun e => ?_, fun e0 e1 e2 e3 e4 e5 e6 e7 => ?_⟩
  · obtain rfl := nI_at hv (k := 0) (by decide) e
    exact km_of q i 0 (by rw [hr.1]; exact hk3)
  · obtain rfl := nI_at hv (k := 1) (by decide) e
    exact km_of q i 1 (by rw [hr.2.1]; exact hk3)
  · obtain rfl := nI_at hv (k := 2) (by decide) e
    exact km_children q i hmd ho.1 hi hk3
  · obtain rfl := nI_at hv (k := 3) (by decide) e
    exact km_deep q i (by rw [hr.2.2.1]; exact hk3)
  · obtain rfl := nI_at hv (k := 4) (by decide) e
    have hk3 : P (if i = 0 then -8 else nI (tr_a (zt z q) (dl_pa (tr_d (zt z q)) i))) X := hk3
    refine pl_eq (a := i) (b := 0) (fun e => by rw [if_pos e] at hk3; exact hk3) (fun e => ?_)
    rw [if_neg e] at hk3
    refine km_parent q i hmd ho.1 hi (fun z => absurd z e) (fun _ => ?_)
    have hpa := (dl_pa_spec ho.1 (by omega) hi).1
    exact km_of q (dl_pa (tr_d (zt z q)) i) 0 (by rw [(hp.2.2.2 _ (by omega)).1.1]; exact hk3)
  · obtain rfl := nI_at hv (k := 5) (by decide) e
    refine km_end q i hmd hi ?_
    have := dl_en_spec (d := tr_d (zt z q)) hi
    rw [pk_sub (by omega)]
    exact hk3
  · obtain rfl := nI_at hv (k := 6) (by decide) e
    exact km_behind q i hmd ho.1 hi hk3
  · obtain rfl := nI_at hv (k := 7) (by decide) e
    exact km_of q i 3 (by rw [hr.2.2.2.1.1]; exact hk3)
  · have : v = 8 := by
      have e0 : ¬ nI v = nI 0 := e0
      have e1 : ¬ nI v = nI 1 := e1
      have e2 : ¬ nI v = nI 2 := e2
      have e3 : ¬ nI v = nI 3 := e3
      have e4 : ¬ nI v = nI 4 := e4
      have e5 : ¬ nI v = nI 5 := e5
      have e6 : ¬ nI v = nI 6 := e6
      have e7 : ¬ nI v = nI 7 := e7
      rw [nI_eq (by omega) (by decide)] at e0 e1 e2 e3 e4 e5 e6 e7
      omega
    subst this
    exact km_of q i 10 (by rw [hr.2.2.2.2.1]; exact hk3)
end MN
section CN
variable {θ : gc_T} {g : Nat → Nat} {σ : gc_S} {z z' : zz} {ow TR : Nat → Nat} {A : Nat → Nat → Nat} {P : Int32 → gc_S → Prop} {c n cc ss : Nat}
theorem kn_node {x y w : Int32} (hθ : cTh θ) (hz : zok c z) (h : CSo θ g σ z ow TR A) (hs : sp_node x y w z (cz θ g P)) (hn : 300 ≤ n := by omega) (hc : 3000 ≤ cc := by omega) (hl : 30000 ≤ ss := by omega) : gx_C (gc_O θ) (nX0_node n cc ss) [.ref (g 0), .int x, .int y, .int w] σ (gc_Pi P) := by
  obtain ⟨n, rfl⟩ : ∃ k, n = k + 1 := ⟨n - 1, by omega⟩
  refine ec_X0_node (fun K hK => bc_X0_node_0 hK ⟨3, 222, ⟨by omega, by omega⟩, h.is 0, kn_tree h (fun q hq e n0 => ?_) (fun q hq e n0 => ⟨h.is 1, bc_X0_node_184 hK ⟨h.is 0, kn_fnd hθ h ((hs.1 q hq e).1 n0)⟩⟩) (fun a => ⟨h.is 1, bc_X0_node_184 hK ⟨h.is 0, kn_fnd hθ h (hs.2 a)⟩⟩)⟩)
  have hk := (hs.1 q hq e).2 n0
  have ho := hz.t hq n0
  obtain ⟨hT, ⟨ah, bh, ⟨hR, _, g3, g4⟩, _⟩, _, hp0⟩ := ((h.2.2.2.2.1.1 q hq).2 n0).2
  have h30 := ho.2.1
  have bad : sp_f z (cz θ g P) 1 → gc_G θ K (nX0_node (n + 1) cc ss) (gc_Pi P) 25 [(0, va_rf (some (g 0))), (2, .int y), (3, .int w), (4, va_rf (some (TR q)))] [va_rf (some (g 0))] σ (cc - 3) (ss - 222) := fun a =>
    bc_X0_node_25 hK (bc_X0_node_26 hK ⟨g 0, rfl, h.is 0, kn_need h (fun b => absurd rfl b) (fun _ => ⟨h.is 1, bc_X0_node_184 hK ⟨h.is 0, kn_fnd hθ h a⟩⟩)⟩)
  refine ⟨fun a => bad (hk.2 (nI_out (by omega) (Or.inl a))), fun a => ⟨TR q, rfl, hR.1, ?_⟩⟩
  rw [g3]
  refine ⟨fun b => bad (hk.2 (nI_out (by omega) (Or.inr b))), fun b => ?_⟩
  obtain ⟨i, hi, rfl⟩ := nI_ix (by omega) a b
  have hk2 := hk.1 i hi rfl
  refine bc_X0_node_26 hK ⟨g 0, rfl, h.is 0, kn_need h (fun _ => ⟨TR q, rfl, hR.1, ah, hR.2.1, hR.2.2.2.1, by rw [hR.2.2.2.2.2.1]; exact vp_in_nI (by omega) (by decide), ?_⟩) (fun a => absurd a (by decide))⟩
  rw [nI_clamp (by omega), (g4 i hi).1]
  have hN := hT.2.1 i hi
  have hnb := g4 i hi
  have hbl := dl_bh_lo ho.1 hi
  have hval : ∀ v, v < 9 → w = nI v → P (nd_val (zt z q) i v) σ := fun v hv e => hk2.1 v hv e σ ⟨_, _, _, h⟩
  refine ⟨fun e => ⟨A q i, rfl, hN.isN, ?_⟩, fun e => ⟨A q i, rfl, hN.isN, ?_⟩, fun e => ⟨A q i, rfl, hN.isN, ?_⟩, fun e => ⟨A q i, rfl, hN.isN, ?_⟩, fun e => ⟨A q i, rfl, hN.isN, ?_⟩, fun e => ⟨A q i, rfl, hN.isN, hN.isN, ?_⟩, fun e => ⟨A q i, rfl, hN.isN, ?_⟩, fun e => ⟨A q i, rfl, hN.isN, ?_⟩, fun e => ⟨A q i, rfl, hN.isN, ?_⟩, fun e0 e1 e2 e3 e4 e5 e6 e7 e8 => ⟨h.is 0, g 1, h.ln 0 0 1, h.is 1, ec_X1_of (fun K hK1 => bc_X1_of_0 hK1 ⟨h.is 1, ?_⟩)⟩⟩
  · rw [hN.2.2.2.2.1]; exact hval 0 (by decide) e
  · refine kc_kind hN.isN ?_
    have hkk : gc_k σ (A q i) = 8 + tr_k (zt z q) i := hN.2.2.1
    rw [show gc_k σ (A q i) - 8 = tr_k (zt z q) i by omega]
    exact hval 1 (by decide) e
  · obtain ⟨l, l1, l2⟩ := hN.2.2.2.2.2.2.2
    refine ⟨l, l1, l2.2.1, kc_size l2 ?_⟩
    rw [List.length_map]
    exact hval 2 (by decide) e
  · rw [hnb.2.2.2.2.1]; exact hval 3 (by decide) e
  · have hv := hval 4 (by decide) e
    have hv : P (if i = 0 then -8 else nI (tr_a (zt z q) (dl_pa (tr_d (zt z q)) i))) σ := hv
    by_cases c0 : i = 0
    · rw [if_pos c0] at hv
      rw [c0, hp0]
      exact ⟨fun _ => hv, fun b => absurd rfl b⟩
    · rw [if_neg c0] at hv
      have hpa := hT.2.2.1 i (by omega) hi
      have hlt := (dl_pa_spec ho.1 (by omega) hi).1
      have hNp := hT.2.1 (dl_pa (tr_d (zt z q)) i) (by omega)
      rw [hpa]
      exact ⟨fun b => absurd b (by simp), fun _ => ⟨hN.isN, _, rfl, hNp.isN, by rw [hNp.2.2.2.2.1]; exact hv⟩⟩
  · rw [hnb.2.2.1, hnb.2.2.2.1, pk_sub (by omega), nI_1]
    have : dl_bh (tr_d (zt z q)) (tr_n (zt z q)) i - dl_lo (tr_d (zt z q)) i + 1 = dl_en (tr_d (zt z q)) (tr_n (zt z q)) i - i := by omega
    rw [this]; exact hval 5 (by decide) e
  · rw [hnb.2.2.1]; exact hval 6 (by decide) e
  · obtain ⟨l, l1, l2⟩ := hN.2.2.2.2.2.1
    refine ⟨l, l1, l2.isB, ?_⟩
    rw [l2.n]; exact hval 7 (by decide) e
  · obtain ⟨l, l1, l2⟩ := hN.2.2.2.2.2.2.1
    refine ⟨l, l1, l2.isB, ?_⟩
    rw [l2.n]; exact hval 8 (by decide) e
  · rintro _ rfl
    refine ⟨g 1, rfl, h.is 1, bc_X0_node_184 hK ⟨h.is 0, kn_fnd hθ h (hk2.2 (fun j hj => ?_))⟩⟩
    have : j = 0 ∨ j = 1 ∨ j = 2 ∨ j = 3 ∨ j = 4 ∨ j = 5 ∨ j = 6 ∨ j = 7 ∨ j = 8 := by omega
    rcases this with rfl | rfl | rfl | rfl | rfl | rfl | rfl | rfl | rfl <;> assumption
end CN
