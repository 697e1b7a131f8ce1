/-! TAKE, the component -/
section KT
variable {θ : gc_T} {g : Nat → Nat} {σ : gc_S} {z : zz} {ow TR : Nat → Nat} {A : Nat → Nat → Nat} {P : Int32 → gc_S → Prop} {c n cc ss : Nat}
theorem tr_ok.ll {N : Nat} {t : tr_} (h : tr_ok N t) {j : Nat} (hj : j < tr_n t) : (tr_l t j).length ≤ 6 ∧ ∀ c ∈ tr_l t j, c < 256 := ⟨(h.2.2.1 j hj).2.2.2.2.1, fun c hc => ((h.2.2.1 j hj).2.2.2.2.2.1 c hc).lt⟩
/-- the same name in the copy -/
theorem nm_uniq {N : Nat} {t : tr_} (h : tr_ok N t) (hN : N ≤ 100000) {i j : Nat} {x : Int32} (hi : i < tr_n t) (hj : j < tr_n t) (e1 : nI (tr_a t i) = x) (e2 : nI (tr_a t j) = x) : j = i := by
  have a1 : tr_a t i < N := (h.2.2.1 i hi).1
  have a2 : tr_a t j < N := (h.2.2.1 j hj).1
  rw [← e1, nI_eq (by omega) (by omega)] at e2
  exact h.2.2.2.1 j i hj hi e2
theorem kn_take {x y : Int32} (hθ : cTh θ) (hz : zok c z) (h64 : c ≤ 64) (h : CSo θ g σ z ow TR A) (hs : sp_take x y z (cz θ g P)) (hn : 300 ≤ n := by omega) (hc : 3000 ≤ cc := by omega) (hl : 30000 ≤ ss := by omega) : gx_C (gc_O θ) (nX0_take n cc ss) [.ref (g 0), .int x, .int y] σ (gc_Pi P) := by
  obtain ⟨n, rfl⟩ : ∃ k, n = k + 1 := ⟨n - 1, by omega⟩
  refine ec_X0_take (fun K hK => bc_X0_take_0 hK ⟨3, 222, ⟨by omega, by omega⟩, h.is 0, kn_tree h (fun q hq e n0 => ⟨h.is 0, ?_⟩) (fun q hq e n0 => ⟨h.is 1, bc_X0_take_159 hK ⟨h.is 0, kn_fnd hθ h ((hs.1 q hq e).1 n0)⟩⟩) (fun a => ⟨h.is 1, bc_X0_take_159 hK ⟨h.is 0, kn_fnd hθ h (hs.2 a)⟩⟩)⟩)
  have hk := (hs.1 q hq e).2 n0
  have ho := hz.t hq n0
  have hN : zN z ≤ 100000 := by have := hz.2.1; omega
  have hk' : sp_named (zt z q) y (fun i => nI (tr_a (zt z q) i) = y ∧ _) _ := ⟨fun i hi e => ⟨e, hk.1 i hi e⟩, hk.2⟩
  refine kn_node2 hz h hq n0 hk' (fun i hi hk2 => ?_) (fun a => ⟨h.is 1, bc_X0_take_159 hK ⟨h.is 0, kn_fnd hθ h a⟩⟩)
  obtain ⟨e1, hk3⟩ := hk2
  have hW := ((h.2.2.2.2.1.1 q hq).2 n0).2
  have iT := (h.tin hq n0).2.1
  have e700 : gc_R σ 700 (TR q) = some (A q 0) := by
    obtain ⟨_, ⟨_, _, hk0, _⟩, _⟩ := hW
    exact hk0.2.1
  refine ⟨TR q, rfl, iT, ?_⟩
  rw [e700]
  refine ⟨fun e0 => bc_X0_take_25 hK ⟨g 0, rfl, h.is 0, kn_need h (fun b => absurd rfl b) (fun _ => ⟨h.is 1, bc_X0_take_159 hK ⟨h.is 0, kn_fnd hθ h (hk3.1 (hW.1.2.2.2 i 0 hi (by omega) (Option.some.inj e0)))⟩⟩)⟩, fun e0 => bc_X0_take_25 hK ⟨g 0, rfl, h.is 0, kn_need h (fun _ => ?_) (fun a => absurd a (by decide))⟩⟩
  have i0 : ¬ i = 0 := fun y => e0 (by rw [y])
  have hk4 := hk3.2 i0
  refine ⟨TR q, rfl, 100, 2300, ⟨by omega, by omega⟩, iT, kc_copy hθ h.2.2.2.1.1 h.1.2 hW ho.sm (fun σ1 ow1 tr B x1 w1 o1 hW1 htr hB => ?_)⟩
  obtain ⟨hT1, ⟨ah, bh, hK1, oa, ob⟩, otr, hp0⟩ := id hW1
  refine ⟨tr, rfl, hK1.1.1, kc_find hW1 ho.2.1 (fun j hj e2 _ => ?_) (fun e2 => absurd e1 (e2 i hi))⟩
  obtain rfl := nm_uniq ho hN hi hj e1 e2
  have hY : cY θ σ ow tr ah bh (B 0) σ1 ow1 := ⟨x1, w1, h.2.2.2.1.1, o1, ⟨hK1.1, hK1.2.1, otr, oa, ob⟩, htr⟩
  have hD := hT1.D hp0
  obtain ⟨p, ep⟩ : ∃ p, p = dl_pa (tr_d (zt z q)) j := ⟨_, rfl⟩
  have hpl := (dl_pa_spec ho.1 (by omega) hi).1
  rw [← ep] at hpl
  have hpn : p < tr_n (zt z q) := by omega
  obtain ⟨a, ha, hat⟩ := dl_at_of ho.1 (by omega) hi hpn ep.symm
  obtain ⟨c0, e804, hl0⟩ := (hT1.2.1 p hpn).2.2.2.2.2.2.2
  have e803 := hT1.2.2.1 j (by omega) hi
  rw [← ep] at e803
  refine ⟨B j, rfl, (hT1.2.1 j hi).isN, B p, e803, (hT1.2.1 p hpn).isN, c0, e804, hl0.2.1, ?_⟩
  refine kc_indexOf (i := a) hl0 (hT1.2.1 j hi).isN (by rw [List.length_map]; exact ha) (by rw [ls_map_get ha, dl_cl_get ha, hat]) (fun k hk5 => ?_) ?_
  · rw [ls_map_get (by omega), dl_cl_get (by omega)]
    intro e5
    have hb := dl_at_pa ho.1 hpn (k := k) (by omega)
    have := hT1.2.2.2 _ _ hb.2.1 hi e5
    rw [← hat] at this
    have := dl_at_inj ho.1 hpn (by omega) ha this
    omega
  refine ⟨(hT1.2.1 p hpn).isN, c0, e804, hl0.2.1, kd_remove hθ hY hB hD hpn ha e804 (fun σ2 hY2 hD2 => ?_)⟩
  have hm30 : (dl_cl (tr_d (zt z q)) (tr_n (zt z q)) j).length ≤ 30 := by
    have := dl_len_lt ho.1 hi
    have := (dl_en_spec (d := tr_d (zt z q)) (n := tr_n (zt z q)) hi).2.1
    have := ho.2.1
    omega
  have hp30 : (dl_cl (tr_d (zt z q)) (tr_n (zt z q)) p).length + (dl_cl (tr_d (zt z q)) (tr_n (zt z q)) j).length ≤ 30 := by
    obtain ⟨d1, _⟩ := dt_cl_p ho.1 (by omega) hi hpn ha hat
    have d2 := dl_len_lt (dt_ok ho.1 (by omega) hi) (i := p) (by omega)
    have d3 := (dl_en_spec (d := dt_d (tr_d (zt z q)) (tr_n (zt z q)) j) (n := tr_n (zt z q) - 1) (i := p) (by omega)).2.1
    have := ho.2.1
    omega
  have loop : ∀ f k σ2 ow2 ch pa bc bs, k + f = (dl_cl (tr_d (zt z q)) (tr_n (zt z q)) j).length → cY θ σ ow tr ah bh (B 0) σ2 ow2 → cD θ σ2 ow2 (cLg g) (tr_n (zt z q)) B (tr_r (zt z q)) ch pa → ch p = (dl_cl (tr_d (zt z q)) (tr_n (zt z q)) p).take a ++ (dl_cl (tr_d (zt z q)) (tr_n (zt z q)) j).take k ++ (dl_cl (tr_d (zt z q)) (tr_n (zt z q)) p).drop (a + 1) → (∀ x, x < tr_n (zt z q) → x ≠ p → ch x = dl_cl (tr_d (zt z q)) (tr_n (zt z q)) x) →
      (∀ u, u < k → pa (dl_at (tr_d (zt z q)) (tr_n (zt z q)) j u) = some (B p)) → (∀ y, 0 < y → y < tr_n (zt z q) → (∀ u, u < k → y ≠ dl_at (tr_d (zt z q)) (tr_n (zt z q)) j u) → pa y = some (B (dl_pa (tr_d (zt z q)) y))) → pa 0 = none → f ≤ bc → 60 * f ≤ bs →
      gc_G θ K (nX0_take (n + 1) cc ss) (gc_Pi P) 87 [(0, va_rf (some (g 0))), (1, .int x), (4, va_rf (some tr)), (5, va_rf (some (B j))), (6, va_rf (some (B p))), (7, .int (nI a)), (8, .int (nI (dl_cl (tr_d (zt z q)) (tr_n (zt z q)) j).length)), (9, .int (nI k))] [] σ2 bc bs := by
    intro f
    induction f with
    | zero =>
      intro k σ2 ow2 ch pa bc bs hkf hY2 hD2 hcp hcx hp1 hp2 hpz _ _
      have ek : k = (dl_cl (tr_d (zt z q)) (tr_n (zt z q)) j).length := by omega
      rw [ek, List.take_of_length_le (Nat.le_refl _)] at hcp
      rw [ek] at hp1 hp2
      have hT := cD_tk ho.1 (by omega) hi ep.symm ha hat hD2 hcp hcx hp1 hp2
      have hB' : ∀ k, k < tr_n (tr_tk (zt z q) j) → (fun k => B (dt_un j k)) k ∉ gc_d σ := fun k hk => hB _ (by
        have hk' : k < tr_n (zt z q) - 1 := hk
        unfold dt_un
        split <;> omega)
      have h2 := hY2.cs hθ h
      have e0 : B 0 = (fun k => B (dt_un j k)) 0 := by
        show B 0 = B (dt_un j 0)
        rw [show dt_un j 0 = 0 from if_pos (by omega)]
      have ll : ∀ u, u < tr_n (tr_tk (zt z q) j) → (tr_l (tr_tk (zt z q) j) u).length ≤ 6 ∧ ∀ c ∈ tr_l (tr_tk (zt z q) j) u, c < 256 := fun u hu => by
        have hu' : u < tr_n (zt z q) - 1 := hu
        obtain ⟨v, hv, hvi, rfl⟩ := dt_sh_inv (i := j) hu'
        rw [(tr_tk_at (t := zt z q) hvi).2.2.1]
        exact ho.ll hv
      refine bc_X0_take_87 hK (pl_le (fun _ => ⟨B p, rfl, (hD2.1 p hpn).isN, ?_⟩) (fun e5 => by omega))
      have epp : B p = (fun k => B (dt_un j k)) p := by
        show B p = B (dt_un j p)
        rw [show dt_un j p = p from if_pos hpl]
      have htw := tw_tk ho.1 ho.2.2.2.2.2 (by omega) hi
      rw [← ep] at htw
      rw [epp]
      refine kc_clashesT (i := p) hT (by show p < tr_n (zt z q) - 1; omega) ll (fun w => ⟨fun e5 => absurd e5 (by decide), fun _ => bc_X0_take_137 hK ⟨g 0, rfl, h2.is 0, kn_need h2 (fun b => absurd rfl b) (fun _ => ⟨h2.is 1, bc_X0_take_159 hK ⟨h2.is 0, kn_fnd hθ h2 (hk4.1 (htw.mpr w))⟩⟩)⟩⟩) (fun w => ⟨fun _ => ?_, fun e5 => absurd rfl e5⟩)
      have nw : ¬ tr_tw (tr_tk (zt z q) j) := fun y => w (htw.mp y)
      refine bc_X0_take_137 hK ⟨g 0, rfl, h2.is 0, kn_need h2 (fun _ => ?_) (fun a => absurd a (by decide))⟩
      have hok := ho.tk (by omega) hi nw
      have hr := hY2.2.2.2.2.1
      have nt : tr_n (tr_tk (zt z q) j) ≤ 30 := hok.2.1
      refine ⟨tr, rfl, hr.1.1, kc_number hT hr.1 (by rw [hr.2.1]; exact congrArg some e0) (by omega) (fun _ σ3 nf hK3 => ?_) (fun e5 => absurd hok.sm e5)⟩
      have hp3 : gc_R σ2 803 ((fun k => B (dt_un j k)) 0) = none := by rw [← e0, hD2.2.1 0 (by omega)]; exact hpz
      obtain ⟨h3, _, h4⟩ := hY2.grown (q := q) hθ h hT hB' hp3 nf
      have n3 : gc_n σ3 (g 3) = 8 := h3.n 3
      subst e
      refine ⟨h3.is 0, g 3, h3.ln 2 0 3, h3.is 3, by rw [n3]; exact vp_in_nI hq (by decide), fun v hv => by obtain rfl := Option.some.inj hv; exact hK3.1.1, ?_⟩
      rw [nI_clamp (by omega)]
      rintro _ rfl
      exact hk4.2 nw _ ⟨_, _, _, h4 hK3⟩
    | succ f ih =>
      intro k σ2 ow2 ch pa bc bs hkf hY2 hD2 hcp hcx hp1 hp2 hpz hbc hbs
      refine bc_X0_take_87 hK (pl_le (fun e5 => by omega) (fun _ => ⟨B j, rfl, (hD2.1 j hi).isN, ?_⟩))
      obtain ⟨c1, e6, hl1⟩ := (hD2.1 j hi).2.2.2.2.2.2.2
      rw [hcx j hi (by omega)] at hl1
      have hkl : k < (dl_cl (tr_d (zt z q)) (tr_n (zt z q)) j).length := by omega
      refine ⟨c1, e6, hl1.2.1, kc_get hl1 k (by rw [List.length_map]; exact hkl) ?_⟩
      rw [ls_map_get hkl, dl_cl_get hkl]
      have hv := dl_at_pa ho.1 hi hkl
      refine ⟨fun v e7 => by obtain rfl := Option.some.inj e7; exact (hD2.1 _ hv.2.1).isN, B p, rfl, 1, 60, ⟨by omega, by omega⟩, (hD2.1 p hpn).isN, ?_⟩
      have hlT : ((dl_cl (tr_d (zt z q)) (tr_n (zt z q)) p).take a ++ (dl_cl (tr_d (zt z q)) (tr_n (zt z q)) j).take k).length = a + k := by rw [List.length_append, List.length_take, List.length_take]; omega
      have hlc : (ch p).length ≤ 30 ∧ a + k ≤ (ch p).length := by
        rw [hcp, List.length_append, hlT, List.length_drop]
        omega
      refine kd_addAt (j := a + k) hθ hY2 hB hD2 hpn hv.2.1 (by omega) hlc.2 (fun σ3 ow3 hY3 hD3 => ?_) (by rw [nI_add])
      rw [nI_1]
      refine ih (k + 1) σ3 ow3 _ _ _ _ (by omega) hY3 hD3 ?_ (fun x hx hxp => by rw [if_neg hxp]; exact hcx x hx hxp) (fun u hu => ?_) (fun y y0 hy hyu => ?_) ?_ (by omega) (by omega)
      · rw [if_pos rfl, hcp, ls_ins_app hlT, ls_take_s hkl, dl_cl_get hkl]
        simp only [List.append_assoc, List.cons_append, List.nil_append]
      · by_cases e8 : u = k
        · rw [e8, if_pos rfl]
        · rw [if_neg (fun e9 => e8 (dl_at_inj ho.1 hi (by omega) hkl e9))]
          exact hp1 u (by omega)
      · rw [if_neg (hyu k (by omega))]
        exact hp2 y y0 hy (fun u hu => hyu u (by omega))
      · rw [if_neg (by omega)]; exact hpz
  obtain ⟨c1, e6, hl1⟩ := (hD2.1 j hi).2.2.2.2.2.2.2
  have hjp : ¬ j = p := by omega
  have hl1 : cL θ σ2 ow1 (B j) c1 (List.map B (if j = p then _ else dl_cl (tr_d (zt z q)) (tr_n (zt z q)) j)) := hl1
  rw [if_neg hjp] at hl1
  refine ⟨(hD2.1 j hi).isN, c1, e6, hl1.2.1, kc_size hl1 ?_⟩
  rw [List.length_map, e803]
  refine loop _ 0 σ2 ow1 _ _ _ _ (Nat.zero_add _) hY2 hD2 ?_ (fun x hx hxp => if_neg hxp) (fun u hu => absurd hu (Nat.not_lt_zero _)) (fun y y0 _ _ => if_neg (by omega)) (if_pos rfl) (by omega) (by omega)
  rw [if_pos rfl]
  show ls_del _ a = _
  unfold ls_del
  rw [List.take_zero, List.append_nil]
end KT
