/-! PUT, the component: the walk -/
section KP
variable {θ : gc_T} {g : Nat → Nat} {σ : gc_S} {z : zz} {ow TR : Nat → Nat} {A : Nat → Nat → Nat} {P : Int32 → gc_S → Prop} {c n cc ss : Nat}
theorem CSo.nm {v : Nat} (hθ : cTh θ) (h : CSo θ g σ z ow TR A) : CSo θ g (gc_sI σ 3 (g 0) (nI v)) (z_N z v) ow TR A := by
  have e : ∀ f a, f ≠ 3 → gc_I (gc_sI σ 3 (g 0) (nI v)) f a = gc_I σ f a := fun f a hf => by rw [rd_I_sI, if_neg (fun y => hf y.1)]
  obtain ⟨⟨a1, a2, a3⟩, ⟨w1, w2⟩, c1, f1, ⟨q1, q2⟩, ⟨d1, d2⟩, ⟨m1, m2⟩, ⟨x1, x2⟩, g1⟩ := h.2.2.1
  refine h.st (i := 0) hθ (by unfold role; omega) (by decide) (by decide) (by decide) (by decide) (by decide) (cx_sI σ 3 (g 0) (nI v)) rfl rfl rfl ?_
  exact ⟨⟨by rw [rd_I_sI, if_pos ⟨rfl, rfl⟩]; rfl, by rw [e 5 _ (by decide)]; exact a2, a3⟩, ⟨by rw [e 301 _ (by decide)]; exact w1, w2⟩, c1, f1, ⟨by rw [e 13 _ (by decide)]; exact q1, q2⟩, ⟨by rw [e 17 _ (by decide)]; exact d1, d2⟩, ⟨fun y => by rw [e 12 _ (by decide)]; exact m1 y, fun y => by rw [e 12 _ (by decide), e 14 _ (by decide)]; exact m2 y⟩, ⟨by rw [e 603 _ (by decide)]; exact x1, x2⟩, by show gc_I (gc_sI σ 3 (g 0) (nI v)) 11 (g 0) = _; rw [e 11 _ (by decide)]; exact g1⟩
theorem kn_put {x y kd fr mm : Int32} (hθ : cTh θ) (hz : zok c z) (h64 : c ≤ 64) (h : CSo θ g σ z ow TR A) (hs : sp_put x y kd fr mm z (cz θ g P)) (hn : 300 ≤ n := by omega) (hc : 3000 ≤ cc := by omega) (hl : 30000 ≤ ss := by omega) : gx_C (gc_O θ) (nX0_put n cc ss) [.ref (g 0), .int x, .int y, .int kd, .int fr, .int mm] σ (gc_Pi P) := by
  obtain ⟨n, rfl⟩ : ∃ k, n = k + 1 := ⟨n - 1, by omega⟩
  refine ec_X0_put (fun K hK => bc_X0_put_0 hK ⟨3, 222, ⟨by omega, by omega⟩, h.is 0, kn_tree h (fun q hq e n0 => ⟨h.is 0, ?_⟩) (fun q hq e n0 => ⟨h.is 1, bc_X0_put_230 hK ⟨h.is 0, kn_fnd hθ h ((hs.1 q hq e).1 n0)⟩⟩) (fun a => ⟨h.is 1, bc_X0_put_230 hK ⟨h.is 0, kn_fnd hθ h (hs.2 a)⟩⟩)⟩)
  have hk := (hs.1 q hq e).2 n0
  have ho := hz.t hq n0
  have hN : zN z ≤ 100000 := by have := hz.2.1; omega
  have hk' : sp_named (zt z q) y (fun i => nI (tr_a (zt z q) i) = y ∧ _) _ := ⟨fun i hi e => ⟨e, hk.1 i hi e⟩, hk.2⟩
  refine kn_node2 hz h hq n0 hk' (fun i hi hk2 => ?_) (fun a => ⟨h.is 1, bc_X0_put_230 hK ⟨h.is 0, kn_fnd hθ h a⟩⟩)
  obtain ⟨e1, hk3⟩ := hk2
  have hW0 := ((h.2.2.2.2.1.1 q hq).2 n0).2
  have hk30 := hW0.1.2.1 i hi
  have fin : ∀ r14 : Int32, (r14 = 1 ∧ tr_k (zt z q) i ≠ 3 ∨ r14 = 0 ∧ tr_k (zt z q) i = 3) → ∃ c20 s20 : Nat, (c20 ≤ cc - 3 ∧ s20 ≤ ss - 222) ∧ gc_is σ (g 0) 0 ∧ gx_C (gc_O θ) (nX0_taken n c20 s20) (.ref (g 0) :: []) σ (gc_Pr (fun r20 σ20 => ((kd < 0 → gc_G θ K (nX0_put (n + 1) cc ss) (gc_Pi P) 52 [(0, va_rf (some (g 0))), (1, .int x), (2, .int y), (3, .int kd), (4, .int fr), (5, .int mm), (6, va_rf (some (TR q))), (8, va_rf r20)] [va_rf (some (g 0))] σ20 ((cc - 3) - c20) ((ss - 222) - s20)) ∧ (¬ kd < 0 → ((2 < kd → gc_G θ K (nX0_put (n + 1) cc ss) (gc_Pi P) 52 [(0, va_rf (some (g 0))), (1, .int x), (2, .int y), (3, .int kd), (4, .int fr), (5, .int mm), (6, va_rf (some (TR q))), (8, va_rf r20)] [va_rf (some (g 0))] σ20 ((cc - 3) - c20) ((ss - 222) - s20)) ∧ (¬ 2 < kd → ((r14 = 0 → gc_G θ K (nX0_put (n + 1) cc ss) (gc_Pi P) 52 [(0, va_rf (some (g 0))), (1, .int x), (2, .int y), (3, .int kd), (4, .int fr), (5, .int mm), (6, va_rf (some (TR q))), (8, va_rf r20)] [va_rf (some (g 0))] σ20 ((cc - 3) - c20) ((ss - 222) - s20)) ∧ (¬ r14 = 0 → gx_C (gc_O θ) (nX0_isLabel n) [va_rf r20] σ20 (gc_Pi (fun r42 σ42 => ((r42 = 0 → gc_G θ K (nX0_put (n + 1) cc ss) (gc_Pi P) 52 [(0, va_rf (some (g 0))), (1, .int x), (2, .int y), (3, .int kd), (4, .int fr), (5, .int mm), (6, va_rf (some (TR q))), (8, va_rf r20)] [va_rf (some (g 0))] σ42 ((cc - 3) - c20) ((ss - 222) - s20)) ∧ (¬ r42 = 0 → gc_G θ K (nX0_put (n + 1) cc ss) (gc_Pi P) 53 [(0, va_rf (some (g 0))), (1, .int x), (2, .int y), (3, .int kd), (4, .int fr), (5, .int mm), (6, va_rf (some (TR q))), (8, va_rf r20)] [.int 1, va_rf (some (g 0))] σ42 ((cc - 3) - c20) ((ss - 222) - s20))))))))))))) := by
    intro r14 hr14
    refine ⟨1, 400, ⟨by omega, by omega⟩, h.is 0, kn_taken hθ hz h (fun σ1 ow1 q0 h1 hb x1 _ w1 => ?_)⟩
    have bad : ¬ pt_in kd z q i → gc_G θ K (nX0_put (n + 1) cc ss) (gc_Pi P) 52 [(0, va_rf (some (g 0))), (1, .int x), (2, .int y), (3, .int kd), (4, .int fr), (5, .int mm), (6, va_rf (some (TR q))), (8, va_rf (some q0))] [va_rf (some (g 0))] σ1 ((cc - 3) - 1) ((ss - 222) - 400) := fun b => bc_X0_put_52 hK (bc_X0_put_53 hK ⟨g 0, rfl, h1.is 0, kn_need h1 (fun b => absurd rfl b) (fun _ => ⟨h1.is 1, bc_X0_put_230 hK ⟨h1.is 0, kn_fnd hθ h1 (hk3.1 b)⟩⟩)⟩)
    refine ⟨fun b1 => bad (fun u => ?_), fun b1 => ⟨fun b2 => bad (fun u => ?_), fun b2 => ⟨fun b3 => bad (fun u => ?_), fun b3 => kc_isLabel hb hz.2.2.1 hz.2.2.2.1 (fun a1 a2 a3 => ⟨fun b4 => absurd b4 (by decide), fun _ => ?_⟩) (fun a => ⟨fun _ => bad (fun u => a u.2.2), fun b4 => absurd rfl b4⟩)⟩⟩⟩
    · obtain ⟨⟨k, k1, k2⟩, _⟩ := u
      rw [k2] at b1; exact nI_pos (by omega) b1
    · obtain ⟨⟨k, k1, k2⟩, _⟩ := u
      rw [k2, show (2 : Int32) = nI 2 from rfl, nI_ltI (by decide) (by omega)] at b2
      omega
    · rcases hr14 with ⟨r1, r2⟩ | ⟨r1, r2⟩
      · rw [r1] at b3; exact absurd b3 (by decide)
      · exact u.2.1 r2
    have hk3' : tr_k (zt z q) i ≠ 3 := by
      rcases hr14 with ⟨r1, r2⟩ | ⟨r1, r2⟩
      · exact r2
      · exact absurd r1 b3
    obtain ⟨kk, kk1, kk2⟩ : ∃ k : Nat, k < 3 ∧ kd = nI k := nI_ix (by decide) b1 (fun y => b2 (by
      obtain ⟨j, hj1, hj2⟩ := nI_of b1
      rw [hj2, nI_leI (by decide) hj1] at y
      rw [hj2, show (2 : Int32) = nI 2 from rfl, nI_ltI (by decide) hj1]
      omega))
    have hk4 := hk3.2 ⟨⟨kk, by omega, kk2⟩, hk3', a1, a2, a3⟩
    have ekk : kd.toNatClampNeg = kk := by rw [kk2]; exact nI_clamp (by omega)
    rw [ekk] at hk4
    have hW : cW θ σ1 ow1 (cLg g) (TR q) (zt z q) (A q) := ((h1.2.2.2.2.1.1 q hq).2 n0).2
    refine bc_X0_put_53 hK ⟨g 0, rfl, h1.is 0, kn_need h1 (fun _ => ?_) (fun a => absurd a (by decide))⟩
    refine ⟨TR q, rfl, 100, 2300, ⟨by omega, by omega⟩, (h1.tin hq n0).2.1, kc_copy hθ h1.2.2.2.1.1 h1.1.2 hW ho.sm (fun σ2 ow2 tr B x2 w2 o2 hW2 htr hB => ?_)⟩
    obtain ⟨hT2, ⟨ah, bh, hK2, oa, ob⟩, otr, hp0⟩ := id hW2
    refine ⟨tr, rfl, hK2.1.1, kc_find hW2 ho.2.1 (fun j hj e2 _ => ?_) (fun e2 => absurd e1 (e2 i hi))⟩
    obtain rfl := nm_uniq ho hN hi hj e1 e2
    have hY : cY θ σ1 ow1 tr ah bh (B 0) σ2 ow2 := ⟨x2, w2, h1.2.2.2.1.1, o2, ⟨hK2.1, hK2.2.1, otr, oa, ob⟩, htr⟩
    have hD := hT2.D hp0
    have h2 := hY.cs hθ h1
    have hm30 : (dl_cl (tr_d (zt z q)) (tr_n (zt z q)) j).length ≤ 30 := by
      have := dl_len_lt ho.1 hi
      have := (dl_en_spec (d := tr_d (zt z q)) (n := tr_n (zt z q)) hi).2.1
      have := ho.2.1
      omega
    obtain ⟨c0, e804, hl0⟩ := (hT2.2.1 j hi).2.2.2.2.2.2.2
    have out : (∀ a b : Nat, a + b ≤ (dl_cl (tr_d (zt z q)) (tr_n (zt z q)) j).length → ¬ (fr = nI a ∧ mm = nI b)) → gc_G θ K (nX0_put (n + 1) cc ss) (gc_Pi P) 104 [(0, va_rf (some (g 0))), (1, .int x), (3, .int kd), (4, .int fr), (5, .int mm), (8, va_rf (some q0)), (9, va_rf (some tr)), (10, va_rf (some (B j)))] [va_rf (some (g 0))] σ2 ((cc - 3) - 1 - 100) ((ss - 222) - 400 - 2300) := fun b => bc_X0_put_104 hK (bc_X0_put_105 hK ⟨g 0, rfl, h2.is 0, kn_need h2 (fun b => absurd rfl b) (fun _ => ⟨h2.is 1, bc_X0_put_230 hK ⟨h2.is 0, kn_fnd hθ h2 (hk4.2 b)⟩⟩)⟩)
    refine ⟨fun f1 => out (fun a b _ u => ?_), fun f1 => ⟨fun f2 => out (fun a b _ u => ?_), fun f2 => ⟨B j, rfl, (hT2.2.1 j hi).isN, c0, e804, hl0.2.1, kc_size hl0 ?_⟩⟩⟩
    · rw [u.1] at f1; exact nI_pos (by omega) f1
    · rw [u.2] at f2; exact nI_pos (by omega) f2
    obtain ⟨a, ha1, ha2⟩ := nI_of f1
    obtain ⟨b, hb1, hb2⟩ := nI_of f2
    rw [List.length_map, ha2, hb2]
    rw [ha2, hb2] at out
    refine ⟨fun f3 => out (fun a' b' q1 u => ?_), fun f3 => ?_⟩
    · rw [rg_sub (by omega) ha1 hb1] at f3
      rw [nI_eq ha1 (by omega), nI_eq hb1 (by omega)] at u
      omega
    rw [rg_sub (by omega) ha1 hb1] at f3
    have hab : a + b ≤ (dl_cl (tr_d (zt z q)) (tr_n (zt z q)) j).length := by omega
    have hk5 := hk4.1 a b hab ha2 hb2
    have er : rw_d ((zN z, kk, tr_d (zt z q) j + 1, zp z, []) : rw_) = tr_d (zt z q) j + 1 := rfl
    have e3 : gc_I σ2 3 (g 0) = nI (zN z) := h2.2.2.1.1.1
    have hb2' : cB θ σ2 (cLg g) q0 (zp z) := hb.cx hθ x2 (fun _ u => u.elim)
    refine bc_X0_put_105 hK ⟨g 0, rfl, h2.is 0, kn_need h2 (fun _ => ⟨h2.is 0, 2, 13, ⟨by omega, by omega⟩, ?_⟩) (fun a => absurd a (by decide))⟩
    rw [e3, kk2]
    refine kc_made (r := (zN z, kk, tr_d (zt z q) j + 1, zp z, [])) (L := cLg g) hθ h2.1.2 o2 (by show kk ≤ 3; omega) hb2' (Or.inl ⟨rfl, h2.1.1, rfl⟩) rfl rfl (fun σ3 ow3 qm m1 m2 m3 m4 m5 m6 m7 => ?_)
    obtain ⟨hY3, hB3, hD3⟩ := cD_new hθ hY hB hD (fun u hu v hv => ((dl_cl_pa ho.1 hu).mp hv).2.1) m3 m4 m5 m1 m6 m7
    obtain ⟨B2, eB2⟩ : ∃ B2 : Nat → Nat, B2 = fun x => if x = tr_n (zt z q) then qm else B x := ⟨_, rfl⟩
    rw [← eB2] at hB3 hD3
    have eBn : qm = B2 (tr_n (zt z q)) := by rw [eB2]; exact (if_pos rfl).symm
    have eBi : ∀ u, u < tr_n (zt z q) → B u = B2 u := fun u hu => by rw [eB2]; exact (if_neg (by omega)).symm
    rw [eBn, eBi j hi]
    rw [eBi 0 (by omega)] at hY3
    have loop : ∀ f k σ4 ow4 ch pa bc bs, k + f = b → cY θ σ1 ow1 tr ah bh (B2 0) σ4 ow4 → cD θ σ4 ow4 (cLg g) (tr_n (zt z q) + 1) B2 (fun x => if x = tr_n (zt z q) then (zN z, kk, tr_d (zt z q) j + 1, zp z, []) else tr_r (zt z q) x) ch pa → ch j = (dl_cl (tr_d (zt z q)) (tr_n (zt z q)) j).take a ++ (dl_cl (tr_d (zt z q)) (tr_n (zt z q)) j).drop (a + k) → ch (tr_n (zt z q)) = ((dl_cl (tr_d (zt z q)) (tr_n (zt z q)) j).drop a).take k → (∀ x, x < tr_n (zt z q) → x ≠ j → ch x = dl_cl (tr_d (zt z q)) (tr_n (zt z q)) x) →
      (∀ u, u < k → pa (dl_at (tr_d (zt z q)) (tr_n (zt z q)) j (a + u)) = some (B2 (tr_n (zt z q)))) → (∀ y, 0 < y → y < tr_n (zt z q) → (∀ u, u < k → y ≠ dl_at (tr_d (zt z q)) (tr_n (zt z q)) j (a + u)) → pa y = some (B2 (dl_pa (tr_d (zt z q)) y))) → pa 0 = none → f + 1 ≤ bc → 60 * (f + 1) ≤ bs →
      gc_G θ K (nX0_put (n + 1) cc ss) (gc_Pi P) 127 [(0, va_rf (some (g 0))), (1, .int x), (4, .int (nI a)), (5, .int (nI b)), (9, va_rf (some tr)), (10, va_rf (some (B2 j))), (11, va_rf (some (B2 (tr_n (zt z q))))), (12, .int (nI k))] [] σ4 bc bs := by
      intro f
      induction f with
      | zero =>
        intro k σ4 ow4 ch pa bc bs hkf hY4 hD4 hcj hcn hcx hp1 hp2 hpz hbc hbs
        have ek : k = b := by omega
        rw [ek] at hcj hcn hp1 hp2
        have hlT : ((dl_cl (tr_d (zt z q)) (tr_n (zt z q)) j).take a).length = a := by rw [List.length_take]; omega
        have hlc : (ch j).length ≤ 30 ∧ a ≤ (ch j).length := by
          rw [hcj, List.length_append, hlT, List.length_drop]
          omega
        refine bc_X0_put_127 hK (pl_le (fun _ => ⟨B2 j, rfl, 1, 60, ⟨by omega, by omega⟩, (hD4.1 j (by omega)).isN, ?_⟩) (fun e5 => by omega))
        refine kd_addAt (i := j) (v := tr_n (zt z q)) (j := a) hθ hY4 hB3 hD4 (by omega) (by omega) (by omega) hlc.2 (fun σ5 ow5 hY5 hD5 => ?_)
        have hT := cD_pt (b := b) (r0 := (zN z, kk, tr_d (zt z q) j + 1, zp z, [])) ho.1 hi hab er hD5 (if_pos rfl) (fun x hx => if_neg (by omega)) (by rw [if_pos rfl, hcj, ls_ins_app hlT]) (by rw [if_neg (by omega)]; exact hcn) (fun x hx hxj => by rw [if_neg hxj]; exact hcx x hx hxj) (fun u hu => by
          rw [if_neg (by have := (dl_at_pa ho.1 hi (k := a + u) (by omega)).2.1; omega)]
          exact hp1 u hu) (fun y y0 hy hyu => by rw [if_neg (by omega)]; exact hp2 y y0 hy hyu) (if_pos rfl)
        obtain ⟨f, ef⟩ : ∃ f, f = dl_at (tr_d (zt z q)) (tr_n (zt z q)) j a := ⟨_, rfl⟩
        have hfj := dl_at_le ho.1 hi (k := a)
        have hen := (dl_en_spec (d := tr_d (zt z q)) (n := tr_n (zt z q)) hi).2.1
        have htw := tw_pt (r0 := (zN z, kk, tr_d (zt z q) j + 1, zp z, [])) ho.1 ho.2.2.2.2.2 hi hab er
        have hfl : f ≤ dl_at (tr_d (zt z q)) (tr_n (zt z q)) j (a + b) := by
          rw [ef]
          by_cases e : b = 0
          · rw [e]; exact Nat.le_refl _
          · exact Nat.le_of_lt (dl_at_lt2 ho.1 hi (a + b) (by omega) (by omega))
        change (¬ tr_sm (tr_pt (zt z q) (dl_at (tr_d (zt z q)) (tr_n (zt z q)) j a) (dl_at (tr_d (zt z q)) (tr_n (zt z q)) j (a + b)) (zN z, kk, tr_d (zt z q) j + 1, zp z, [])) → _) ∧ (tr_sm (tr_pt (zt z q) (dl_at (tr_d (zt z q)) (tr_n (zt z q)) j a) (dl_at (tr_d (zt z q)) (tr_n (zt z q)) j (a + b)) (zN z, kk, tr_d (zt z q) j + 1, zp z, [])) → (tr_tw (tr_pt (zt z q) (dl_at (tr_d (zt z q)) (tr_n (zt z q)) j a) (dl_at (tr_d (zt z q)) (tr_n (zt z q)) j (a + b)) (zN z, kk, tr_d (zt z q) j + 1, zp z, [])) → _) ∧ (¬ tr_tw (tr_pt (zt z q) (dl_at (tr_d (zt z q)) (tr_n (zt z q)) j a) (dl_at (tr_d (zt z q)) (tr_n (zt z q)) j (a + b)) (zN z, kk, tr_d (zt z q) j + 1, zp z, [])) → _)) at hk5
        rw [← ef] at hT htw hk5 hfj
        have ll : ∀ u, u < tr_n (tr_pt (zt z q) f (dl_at (tr_d (zt z q)) (tr_n (zt z q)) j (a + b)) (zN z, kk, tr_d (zt z q) j + 1, zp z, [])) → (tr_l (tr_pt (zt z q) f (dl_at (tr_d (zt z q)) (tr_n (zt z q)) j (a + b)) (zN z, kk, tr_d (zt z q) j + 1, zp z, [])) u).length ≤ 6 ∧ ∀ c ∈ tr_l (tr_pt (zt z q) f (dl_at (tr_d (zt z q)) (tr_n (zt z q)) j (a + b)) (zN z, kk, tr_d (zt z q) j + 1, zp z, [])) u, c < 256 := fun u hu => by
          have hu' : u < tr_n (zt z q) + 1 := hu
          rcases dp_sh_inv (f := f) hu' (by omega) with e1 | ⟨v, hv, e1⟩
          · rw [e1, show tr_l (tr_pt (zt z q) f (dl_at (tr_d (zt z q)) (tr_n (zt z q)) j (a + b)) (zN z, kk, tr_d (zt z q) j + 1, zp z, [])) f = zp z by show rw_l (tr_r _ f) = _; rw [tr_pt_f]]
            exact ⟨a2, hz.2.2.2.1⟩
          · rw [e1, (tr_pt_at hfl).2.2.1]; exact ho.ll hv
        have hB' : ∀ k, k < tr_n (tr_pt (zt z q) f (dl_at (tr_d (zt z q)) (tr_n (zt z q)) j (a + b)) (zN z, kk, tr_d (zt z q) j + 1, zp z, [])) → (fun k => B2 (pt_un f (tr_n (zt z q)) k)) k ∉ gc_d σ1 := fun k hk => hB3 _ (by
          have hk' : k < tr_n (zt z q) + 1 := hk
          unfold pt_un
          split
          · omega
          · split <;> omega)
        have eu0 : pt_un f (tr_n (zt z q)) 0 = 0 := pt_un_lo (by omega)
        have euj : pt_un f (tr_n (zt z q)) j = j := pt_un_lo (by omega)
        have euf : pt_un f (tr_n (zt z q)) f = tr_n (zt z q) := pt_un_f
        have ej : B2 j = (fun k => B2 (pt_un f (tr_n (zt z q)) k)) j := by show B2 j = B2 (pt_un f (tr_n (zt z q)) j); rw [euj]
        have em : B2 (tr_n (zt z q)) = (fun k => B2 (pt_un f (tr_n (zt z q)) k)) f := by show _ = B2 (pt_un f (tr_n (zt z q)) f); rw [euf]
        have hr := hY5.2.2.2.2.1
        have hp5 : gc_R σ5 803 ((fun k => B2 (pt_un f (tr_n (zt z q)) k)) 0) = none := by
          show gc_R σ5 803 (B2 (pt_un f (tr_n (zt z q)) 0)) = none
          rw [eu0, hD5.2.1 0 (by omega)]
          exact (if_neg (by omega)).trans hpz
        have n30 := ho.2.1
        refine ⟨tr, rfl, hr.1.1, kc_number hT hr.1 (by rw [hr.2.1]; show some (B2 0) = some (B2 (pt_un f (tr_n (zt z q)) 0)); rw [eu0]) (by show tr_n (zt z q) + 1 ≤ 40; omega) (fun hsm σ6 nf hK6 => ?_) (fun hsm σ6 nf => ?_) (by show 6 + (tr_n (zt z q) + 1) ≤ n; omega)⟩
        · obtain ⟨h6, hT6, h7⟩ := hY5.grown (q := q) hθ h1 hT hB' hp5 nf
          have hk6 := hk5.2 hsm
          have i6j := hT6.2.1 j (by show j < tr_n (zt z q) + 1; omega)
          have i6f := hT6.2.1 f (by show f < tr_n (zt z q) + 1; omega)
          rw [← ej] at i6j
          rw [← em] at i6f
          have badK : tr_tw (tr_pt (zt z q) f (dl_at (tr_d (zt z q)) (tr_n (zt z q)) j (a + b)) (zN z, kk, tr_d (zt z q) j + 1, zp z, [])) → gc_G θ K (nX0_put (n + 1) cc ss) (gc_Pi P) 199 [(0, va_rf (some (g 0))), (1, .int x), (9, va_rf (some tr))] [va_rf (some (g 0))] σ6 (bc - 1) (bs - 60) := fun w => bc_X0_put_199 hK (bc_X0_put_200 hK ⟨g 0, rfl, h6.is 0, kn_need h6 (fun b => absurd rfl b) (fun _ => ⟨h6.is 1, bc_X0_put_230 hK ⟨h6.is 0, kn_fnd hθ h6 (hk6.1 w)⟩⟩)⟩)
          refine ⟨h6.is 0, kn_need h6 (fun _ => ⟨i6j.isN, ?_⟩) (fun a => absurd a (by decide))⟩
          rw [ej]
          refine kc_clashesT (i := j) hT6 (by show j < tr_n (zt z q) + 1; omega) ll (fun w => ⟨fun e5 => absurd e5 (by decide), fun _ => badK (htw.mpr (Or.inl w))⟩) (fun w1 => ⟨fun _ => ⟨B2 (tr_n (zt z q)), rfl, i6f.isN, ?_⟩, fun e5 => absurd rfl e5⟩)
          rw [em]
          refine kc_clashesT (i := f) hT6 (by show f < tr_n (zt z q) + 1; omega) ll (fun w => ⟨fun e5 => absurd e5 (by decide), fun _ => badK (htw.mpr (Or.inr w))⟩) (fun w2 => ⟨fun _ => ?_, fun e5 => absurd rfl e5⟩)
          have nw : ¬ tr_tw (tr_pt (zt z q) f (dl_at (tr_d (zt z q)) (tr_n (zt z q)) j (a + b)) (zN z, kk, tr_d (zt z q) j + 1, zp z, [])) := fun u => by
            rcases htw.mp u with u | u
            · exact w1 u
            · exact w2 u
          have n3 : gc_n σ6 (g 3) = 8 := h6.n 3
          have hfin := hk6.2 nw
          have e10 : pt_t z q j a b kk = tr_pt (zt z q) f (dl_at (tr_d (zt z q)) (tr_n (zt z q)) j (a + b)) (zN z, kk, tr_d (zt z q) j + 1, zp z, []) := by rw [ef]; rfl
          rw [e10] at hfin
          subst e
          refine bc_X0_put_200 hK ⟨g 0, rfl, h6.is 0, kn_need h6 (fun _ => ⟨h6.is 0, g 3, h6.ln 2 0 3, h6.is 3, by rw [n3]; exact vp_in_nI hq (by decide), fun v hv => by obtain rfl := Option.some.inj hv; exact hK6.1.1, ?_⟩) (fun a => absurd a (by decide))⟩
          rw [nI_clamp (by omega)]
          rintro _ rfl
          have h8 := h7 hK6
          have e9 : gc_I (gc_sQ σ6 (g 3) q (some tr)) 3 (g 0) = nI (zN z) := h8.2.2.1.1.1
          refine ⟨h8.is 0, h8.is 0, ?_⟩
          rw [e9, nI_1]
          rintro _ rfl
          have h9 := h8.nm (v := zN z + 1) hθ
          refine ⟨h9.is 0, ?_⟩
          rw [rd_I_sI, if_pos ⟨rfl, rfl⟩, nI_pred]
          exact hfin _ ⟨_, _, _, h9⟩
        · obtain ⟨h6, _⟩ := hY5.grown (q := q) hθ h1 hT hB' hp5 nf
          exact ⟨h6.is 0, kn_need h6 (fun b => absurd rfl b) (fun _ => ⟨h6.is 1, bc_X0_put_230 hK ⟨h6.is 0, kn_fnd hθ h6 (hk5.1 hsm)⟩⟩)⟩
      | succ f ih =>
        intro k σ4 ow4 ch pa bc bs hkf hY4 hD4 hcj hcn hcx hp1 hp2 hpz hbc hbs
        have hlT : ((dl_cl (tr_d (zt z q)) (tr_n (zt z q)) j).take a).length = a := by rw [List.length_take]; omega
        have hlc : a < (ch j).length := by
          rw [hcj, List.length_append, hlT, List.length_drop]
          omega
        have hkl : a + k < (dl_cl (tr_d (zt z q)) (tr_n (zt z q)) j).length := by omega
        have hv := dl_at_pa ho.1 hi hkl
        have eg : (ch j).getD a 0 = dl_at (tr_d (zt z q)) (tr_n (zt z q)) j (a + k) := by
          rw [hcj, ls_app_ge (by rw [hlT]; exact Nat.le_refl _), hlT, Nat.sub_self, ls_drop_get, Nat.add_zero, dl_cl_get hkl]
        obtain ⟨c1, e6, hl1⟩ := (hD4.1 j (by omega)).2.2.2.2.2.2.2
        refine bc_X0_put_127 hK (pl_le (fun e5 => by omega) (fun _ => ⟨B2 j, rfl, (hD4.1 j (by omega)).isN, c1, e6, hl1.2.1, ?_⟩))
        refine kd_remove (i := j) (j := a) hθ hY4 hB3 hD4 (by omega) hlc e6 (fun σ5 hY5 hD5 => ?_)
        rw [eg]
        refine ⟨fun v e7 => by obtain rfl := Option.some.inj e7; exact (hD5.1 _ (by omega)).isN, B2 (tr_n (zt z q)), rfl, 1, 60, ⟨by omega, by omega⟩, (hD5.1 _ (by omega)).isN, ?_⟩
        have hln : (ch (tr_n (zt z q))).length ≤ 40 := by
          rw [hcn, List.length_take, List.length_drop]; omega
        refine kd_add (i := tr_n (zt z q)) (v := dl_at (tr_d (zt z q)) (tr_n (zt z q)) j (a + k)) hθ hY5 hB3 hD5 (by omega) (by omega) (by rw [if_neg (by omega)]; exact hln) (fun σ6 ow6 hY6 hD6 => ?_)
        rw [nI_1]
        refine ih (k + 1) σ6 ow6 _ _ _ _ (by omega) hY6 hD6 ?_ ?_ (fun x hx hxp => ?_) (fun u hu => ?_) (fun y y0 hy hyu => ?_) ?_ (by omega) (by omega)
        · rw [if_neg (by omega), if_pos rfl, hcj, ls_del_app hlT, List.drop_drop]; rfl
        · rw [if_pos rfl, if_neg (by omega), hcn, ls_take_s (by rw [List.length_drop]; omega), ls_drop_get, dl_cl_get hkl]
        · rw [if_neg (by omega), if_neg hxp]; exact hcx x hx hxp
        · by_cases e8 : u = k
          · rw [e8, if_pos rfl]
          · rw [if_neg (fun e9 => e8 (by have := dl_at_inj ho.1 hi (by omega) hkl e9; omega))]
            exact hp1 u (by omega)
        · rw [if_neg (hyu k (by omega))]
          exact hp2 y y0 hy (fun u hu => hyu u (by omega))
        · rw [if_neg (by omega)]; exact hpz
    refine loop b 0 σ3 ow3 _ _ _ _ (Nat.zero_add _) hY3 hD3 ?_ ?_ (fun x hx hxp => if_neg (by omega)) (fun u hu => absurd hu (Nat.not_lt_zero _)) (fun y y0 hy _ => ?_) ?_ (by omega) (by omega)
    · rw [if_neg (by omega), Nat.add_zero, List.take_append_drop]
    · rw [if_pos rfl, List.take_zero]
    · rw [if_neg (by omega), if_neg (by omega), eBi _ (by have := (dl_pa_spec ho.1 y0 hy).1; omega)]
    · rw [if_neg (by omega), if_pos rfl]
  refine ⟨A q i, rfl, hk30.isN, kc_bears (fun b => fin 1 (Or.inl ⟨rfl, fun u => b ?_⟩)) (fun b => fin 0 (Or.inr ⟨rfl, ?_⟩))⟩
  · have := hk30.2.2.1
    have hu : rw_k (tr_r (zt z q) i) = 3 := u
    omega
  · have := hk30.2.2.1
    show rw_k (tr_r (zt z q) i) = 3
    omega
end KP
