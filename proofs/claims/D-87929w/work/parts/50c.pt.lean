/-! put(): the model meets the specification -/
theorem pt_row_ok {z : zz} {c q i : Nat} {kd : Nat} (hz : zok c z) (hc : c ≤ 64) (ho : tr_ok (zN z) (zt z q)) (hi : i < tr_n (zt z q)) (hk : kd ≤ 2) (ha : lb_ok (zp z)) : rw_ok (zN z, kd, tr_d (zt z q) i + 1, zp z, []) := by
  have hN := hz.N hc
  have hd : tr_d (zt z q) i < 12 := (ho.2.2.1 i hi).2.2.1
  exact ⟨show zN z < 100000 by omega, show kd ≤ 3 by omega, show tr_d (zt z q) i + 1 < 100 by omega, ha.2.1, ha.2.2, Nat.zero_le _, fun c (hc : c ∈ ([] : List Nat)) => absurd hc List.not_mem_nil⟩
section MP
variable {θ : gm_T} {P : Int32 → gm_X → Prop} {X : gm_X} {z : zz} {c : Nat}
theorem MS.nN {N : Nat} (h : MS X z) : MS (gm_pI X 2 (nI N)) (z_N z N) := by
  obtain ⟨h1, h2, h3, h4, h5, h6, h7, h8, h9, h10, h11⟩ := h
  have e : ∀ f, f ≠ 2 → (gm_pI X 2 (nI N)).1 f = X.1 f := fun f hf => by rw [ma_pI_at, if_neg hf]
  refine ⟨h1, by show (gm_pI X 2 (nI N)).1 2 = _; rw [ma_pI_at, if_pos rfl]; rfl, ?_, ?_, h5, h6, ?_, ?_, ?_, ?_, ?_⟩
  · unfold ma_tape; rw [e 4 (by decide)]; exact h3
  · unfold mW; rw [e 6 (by decide)]; exact h4
  · unfold mQ; rw [e 20 (by decide)]; exact h7
  · unfold mA; rw [e 21 (by decide)]; exact h8
  · unfold mM; rw [e 22 (by decide)]; exact h9
  · unfold mX; rw [e 31 (by decide)]; exact h10
  · unfold mG; rw [e 32 (by decide)]; exact h11
theorem kp_fill {K : gx_K} {q i f l kk : Nat} {t : tr_} (hK : gm_K θ K mX7_put) (h2 : MS X z) (ht : zt z q = t) {lab : List Nat} (hl : ma_ml X 8 0 3 lab) (hq : q < 8) (hi : i < tr_n t) (hn : tr_n t ≤ 29) (hf : f ≤ tr_n t) (hfl : f ≤ l) (hln : l ≤ tr_n t) (hkk : kk ≤ 2) (hrow : rw_ok (zN z, kk, tr_d t i + 1, lab, [])) (hrows : ∀ j, j < tr_n t → tr_d t j < 12) (hdok : dl_ok (tr_d (tr_pt t f l (zN z, kk, tr_d t i + 1, lab, []))) (tr_n t + 1))
    (kf : ¬ tr_sm (tr_pt t f l (zN z, kk, tr_d t i + 1, lab, [])) → sp_f z (mz P) 5) (kt : tr_sm (tr_pt t f l (zN z, kk, tr_d t i + 1, lab, [])) → tr_tw (tr_pt t f l (zN z, kk, tr_d t i + 1, lab, [])) → sp_f z (mz P) 4) (kg : tr_sm (tr_pt t f l (zN z, kk, tr_d t i + 1, lab, [])) → ¬ tr_tw (tr_pt t f l (zN z, kk, tr_d t i + 1, lab, [])) → ∀ X', MS X' (z_N (z_t z q (tr_pt t f l (zN z, kk, tr_d t i + 1, lab, []))) (zN z + 1)) → P (nI (zN z)) X') :
    gm_G θ K mX7_put (gm_Pi P) 184 [(0, .ref (gm_am θ)), (1, .int (nI q)), (3, .int (nI kk)), (7, .int (nI i)), (9, .int (nI f)), (10, .int (nI l)), (11, .int (nI 3))] [] X := by
  have hp : ma_mp X q t := ht ▸ h2.1 q hq
  have hf30 : f < 30 := by omega
  have hl6 : lab.length ≤ 6 := hrow.2.2.2.1
  have hok : ∀ j, j < tr_n t + 1 → rw_ok (tr_r (tr_pt t f l (zN z, kk, tr_d t i + 1, lab, [])) j) := fun j hj => by
    by_cases c1 : j < f
    · rw [tr_pt_lt c1]; exact (hp.2.2.2 j (by omega)).2
    · by_cases c2 : j = f
      · subst c2
        rw [tr_pt_f]; exact hrow
      · obtain ⟨k', rfl⟩ : ∃ k', j = k' + 1 := ⟨j - 1, by omega⟩
        have ok := (hp.2.2.2 k' (by omega)).2
        have hd : tr_d t k' < 12 := hrows k' (by omega)
        by_cases c3 : k' < l
        · rw [tr_pt_in (by omega) c3]
          exact ⟨ok.1, ok.2.1, show tr_d t k' + 1 < 100 by omega, ok.2.2.2⟩
        · rw [tr_pt_ge (by omega) (by omega)]; exact ok
  -- the rows
  have loop3 : ∀ s k X', k + s = tr_n t → e9 X X' → ma_mr X' 9 f (zN z, kk, tr_d t i + 1, lab, []) → (∀ j, j < k → ma_mr X' 9 (dp_sh f j) (tr_r (tr_pt t f l (zN z, kk, tr_d t i + 1, lab, [])) (dp_sh f j))) → gm_G θ K mX7_put (gm_Pi P) 271 [(0, .ref (gm_am θ)), (1, .int (nI q)), (9, .int (nI f)), (10, .int (nI l)), (11, .int (nI k))] [] X' := by
    intro s
    induction s with
    | zero =>
      intro k X' hk he hr hm
      have hsz : X'.2 1 q = nI (tr_n t) := by rw [he.2.1 1 (by decide)]; exact hp.2.1
      have e9' : (9 : Int32).toNatClampNeg = 9 := by decide
      refine bm_put_271 hK ⟨vp_in_nI (by omega) (by decide), ?_⟩
      rw [nI_clamp (by omega), hsz, e9', nI_1]
      refine pl_le (fun _ => ⟨vp_in_nI (by omega) (by decide), vp_in_nI (n := 9) (N := 11) (by decide) (by decide), ?_⟩) (fun c => by omega)
      rintro _ rfl
      have h3 : MS (gm_pA X' 1 9 (nI (tr_n t + 1))) z := (h2.fr he.ms).fr ⟨fun _ _ => rfl, fun a ha => ma_pA_ne (by rintro rfl; simp at ha), fun p hp => by rw [ma_pA_at, if_neg (by omega)], fun p i w _ _ _ => by show (gm_pA X' 1 9 _).2 0 _ = X'.2 0 _; rw [ma_pA_ne (by decide)]⟩
      have hm9 : ma_mp (gm_pA X' 1 9 (nI (tr_n t + 1))) 9 (tr_pt t f l (zN z, kk, tr_d t i + 1, lab, [])) := by
        refine ⟨by decide, by rw [ma_pA_at, if_pos rfl]; rfl, by show tr_n t + 1 ≤ 30; omega, fun j hj => ?_⟩
        have hj : j < tr_n t + 1 := hj
        have e0 : ∀ r, ma_mr X' 9 j r → ma_mr (gm_pA X' 1 9 (nI (tr_n t + 1))) 9 j r := fun r hr => by
          unfold ma_mr ma_ml ma_nd
          rw [ma_pA_ne (by decide)]; exact hr
        by_cases c1 : j < f
        · have := hm j (by omega)
          rw [show dp_sh f j = j from if_pos c1] at this
          refine ⟨e0 _ this, ?_⟩
          rw [tr_pt_lt c1]; exact (hp.2.2.2 j (by omega)).2
        · by_cases c2 : j = f
          · subst c2
            rw [tr_pt_f]
            exact ⟨e0 _ hr, hrow⟩
          · obtain ⟨k', rfl⟩ : ∃ k', j = k' + 1 := ⟨j - 1, by omega⟩
            have := hm k' (by omega)
            rw [show dp_sh f k' = k' + 1 from if_neg (by omega)] at this
            refine ⟨e0 _ this, ?_⟩
            have ok := (hp.2.2.2 k' (by omega)).2
            have hd : tr_d t k' < 12 := hrows k' (by omega)
            by_cases c3 : k' < l
            · rw [tr_pt_in (by omega) c3]
              exact ⟨ok.1, ok.2.1, show tr_d t k' + 1 < 100 by omega, ok.2.2.2⟩
            · rw [tr_pt_ge (by omega) (by omega)]; exact ok
      refine km_isTooDeep 9 hm9.md (fun ⟨j, j1, j2⟩ => ⟨fun a => absurd a (by decide), fun _ => ks_fnd (f := 5) h3 (kf (fun zs => by have := zs.2 j j1; omega))⟩) (fun hsm => ⟨fun _ => ?_, fun a => absurd rfl a⟩)
      have hsm' : tr_sm (tr_pt t f l (zN z, kk, tr_d t i + 1, lab, [])) := ⟨by show tr_n t + 1 ≤ 30; omega, hsm⟩
      refine km_hasTwice 9 hm9 hdok (fun htw => ⟨fun a => absurd a (by decide), fun _ => ks_fnd (f := 4) h3 (kt hsm' htw)⟩) (fun htw => ⟨fun _ => ?_, fun a => absurd rfl a⟩)
      refine km_copyAll 9 q (tr_n t + 1) hm9.2.1 (by omega) (fun X4 hc4 => ?_)
      have h4 := h3.put hm9 hc4 (by decide) hq
      rintro _ rfl
      have eN : X4.1 2 = nI (zN z) := h4.2.1
      rw [eN, nI_1]
      have e2 : (gm_pI X4 2 (nI (zN z + 1))).1 2 - 1 = nI (zN z) := by rw [ma_pI_at, if_pos rfl, nI_pred]
      rw [e2]
      exact kg hsm' htw _ h4.nN
    | succ s ih =>
      intro k X' hk he hr hm
      have hsz : X'.2 1 q = nI (tr_n t) := by rw [he.2.1 1 (by decide)]; exact hp.2.1
      have hpk := hp.2.2.2 k (by omega)
      have shlt : ∀ j, j ≤ tr_n t → dp_sh f j < 31 := fun j hj => by unfold dp_sh; split <;> omega
      have shne : ∀ j, j ≠ k → dp_sh f j ≠ dp_sh f k := fun j hj => by unfold dp_sh; split <;> split <;> omega
      have shf : ∀ j, dp_sh f j ≠ f := fun j => by unfold dp_sh; split <;> omega
      -- after the row is carried
      have cont : ∀ X3, e9 X X3 → ma_mr X3 9 (dp_sh f k) (tr_r (tr_pt t f l (zN z, kk, tr_d t i + 1, lab, [])) (dp_sh f k)) → (∀ j w, j < 30 → w < 19 → j ≠ dp_sh f k → ma_nd X3 9 j w = ma_nd X' 9 j w) → gm_G θ K mX7_put (gm_Pi P) 343 [(0, .ref (gm_am θ)), (1, .int (nI q)), (9, .int (nI f)), (10, .int (nI l)), (11, .int (nI k))] [] X3 := fun X3 he3 hr3 hs3 => by
        refine bm_put_343 hK ?_
        rw [nI_1]
        refine ih (k + 1) X3 (by omega) he3 (hr.of hrow (fun u hu => hs3 f u hf30 hu (Ne.symm (shf k)))) (fun j hj => ?_)
        by_cases c : j = k
        · rw [c]; exact hr3
        · have := shlt j (by omega)
          refine (hm j (by omega)).of (hok _ (by unfold dp_sh; split <;> omega)) (fun u hu => hs3 _ u (by unfold dp_sh; split <;> omega) hu (shne j c))
      have carr : ∀ x : Int32, x = nI (dp_sh f k) → gm_G θ K mX7_put (gm_Pi P) 298 [(0, .ref (gm_am θ)), (1, .int (nI q)), (9, .int (nI f)), (10, .int (nI l)), (11, .int (nI k))] [.int x] X' := fun x hx => by
        have hto : dp_sh f k < 30 := by unfold dp_sh; split <;> omega
        refine bm_put_298 hK (km_carry q k 9 (dp_sh f k) (fun X3 hc => ?_) (h4 := hx))
        have he3 := he.car hc
        have hr3 : ma_mr X3 9 (dp_sh f k) (tr_r t k) := hpk.1.of hpk.2 (fun u hu => by rw [hc.2.2.1 u hu]; exact he.2.2 q k u (by omega) (by omega) hu)
        have hs3 : ∀ j w, j < 30 → w < 19 → j ≠ dp_sh f k → ma_nd X3 9 j w = ma_nd X' 9 j w := fun j w hj hw hne => hc.2.2.2 9 j w (fun y => hne y.2) hj hw
        refine pl_lt (fun c => cont X3 he3 ?_ hs3) (fun c => pl_le (fun c2 => cont X3 he3 ?_ hs3) (fun c2 => km_deep q k ?_))
        · have esh : dp_sh f k = k := if_pos c
          rw [esh] at hr3 ⊢
          rw [tr_pt_lt c]; exact hr3
        · have esh : dp_sh f k = k + 1 := if_neg (by omega)
          rw [esh] at hr3 ⊢
          rw [tr_pt_ge c c2]; exact hr3
        · have esh : dp_sh f k = k + 1 := if_neg (by omega)
          have hd : ma_nd X3 q k 2 = nI (tr_d t k) := by rw [he3.2.2 q k 2 (by omega) (by omega) (by decide)]; exact hpk.1.2.2.1
          rw [hd, nI_1]
          refine km_set 9 (dp_sh f k) 2 ?_ (h2 := hx)
          refine cont _ (he3.set hto (by decide)) ?_ (fun j w hj hw hne => ?_)
          · have := ma_mr.up (p := 0) hr3 hpk.2 hto (v := nI (tr_d t k + 1)) rfl
            rw [esh] at this ⊢
            rw [tr_pt_in c c2]; exact this
          · rw [ma_nd_set hto (by decide) hj hw, if_neg (fun y => hne y.2.1)]; exact hs3 j w hj hw hne
      refine bm_put_271 hK ⟨vp_in_nI (by omega) (by decide), ?_⟩
      rw [nI_clamp (by omega), hsz]
      refine pl_le (fun c => by omega) (fun _ => pl_le (fun c => carr _ ?_) (fun c => carr _ ?_))
      · rw [nI_1, show dp_sh f k = k + 1 from if_neg (by omega)]
      · rw [show dp_sh f k = k from if_pos c]
  have loop2 : ∀ s w X', w + s = 10 → 3 ≤ w → e9 X X' → (∀ u, 3 ≤ u → u < w → ma_nd X' 9 f u = ma_nd X 8 0 u) → gm_G θ K mX7_put (gm_Pi P) 184 [(0, .ref (gm_am θ)), (1, .int (nI q)), (3, .int (nI kk)), (7, .int (nI i)), (9, .int (nI f)), (10, .int (nI l)), (11, .int (nI w))] [] X' := by
    intro s
    induction s with
    | zero =>
      intro w X' hw h3 he hm
      refine bm_put_184 hK (pl_le (a := 10) (fun _ => km_set 9 f 0 (km_set 9 f 1 (km_deep q i ?_))) (fun c => by omega))
      have he2 : e9 X (gm_pA (gm_pA X' 0 (19 * (30 * 9 + f) + 0) (X'.1 2)) 0 (19 * (30 * 9 + f) + 1) (nI kk)) := (he.set hf30 (by decide)).set hf30 (by decide)
      have hd : ma_nd (gm_pA (gm_pA X' 0 (19 * (30 * 9 + f) + 0) (X'.1 2)) 0 (19 * (30 * 9 + f) + 1) (nI kk)) q i 2 = nI (tr_d t i) := by rw [he2.2.2 q i 2 (by omega) (by omega) (by decide)]; exact (hp.2.2.2 i hi).1.2.2.1
      rw [hd, nI_1]
      refine km_set 9 f 2 (km_set 9 f 10 ?_)
      have eN : X'.1 2 = nI (zN z) := by rw [he.1]; exact h2.2.1
      have he4 := (he2.set (v := nI (tr_d t i + 1)) hf30 (w := 2) (by decide)).set (v := 0) hf30 (w := 10) (by decide)
      refine loop3 (tr_n t) 0 _ (Nat.zero_add _) he4 ⟨?_, ?_, ?_, ⟨?_, fun u hu => ?_⟩, ⟨?_, fun u hu => absurd hu (Nat.not_lt_zero _)⟩⟩ (fun j hj => absurd hj (Nat.not_lt_zero _))
      · rw [ma_nd_set hf30 (by decide) hf30 (by decide), if_neg (by omega), ma_nd_set hf30 (by decide) hf30 (by decide), if_neg (by omega), ma_nd_set hf30 (by decide) hf30 (by decide), if_neg (by omega), ma_nd_set hf30 (by decide) hf30 (by decide), if_pos ⟨rfl, rfl, rfl⟩]; exact eN
      · rw [ma_nd_set hf30 (by decide) hf30 (by decide), if_neg (by omega), ma_nd_set hf30 (by decide) hf30 (by decide), if_neg (by omega), ma_nd_set hf30 (by decide) hf30 (by decide), if_pos ⟨rfl, rfl, rfl⟩]
      · rw [ma_nd_set hf30 (by decide) hf30 (by decide), if_neg (by omega), ma_nd_set hf30 (by decide) hf30 (by decide), if_pos ⟨rfl, rfl, rfl⟩]
      · rw [ma_nd_set hf30 (by decide) hf30 (by decide), if_neg (by omega), ma_nd_set hf30 (by decide) hf30 (by decide), if_neg (by omega), ma_nd_set hf30 (by decide) hf30 (by decide), if_neg (by omega), ma_nd_set hf30 (by decide) hf30 (by decide), if_neg (by omega), hm 3 (by decide) (by omega)]; exact hl.1
      · have hu : u < lab.length := hu
        rw [ma_nd_set hf30 (by decide) hf30 (by omega), if_neg (by omega), ma_nd_set hf30 (by decide) hf30 (by omega), if_neg (by omega), ma_nd_set hf30 (by decide) hf30 (by omega), if_neg (by omega), ma_nd_set hf30 (by decide) hf30 (by omega), if_neg (by omega), hm _ (by omega) (by omega)]; exact hl.2 u hu
      · rw [ma_nd_set hf30 (by decide) hf30 (by decide), if_pos ⟨rfl, rfl, rfl⟩]; rfl
    | succ s ih =>
      intro w X' hw h3 he hm
      refine bm_put_184 hK (pl_le (a := 10) (fun c => by omega) (fun _ => km_of 8 0 w (km_set 9 f w ?_)))
      rw [nI_1]
      refine ih (w + 1) _ (by omega) (by omega) (he.set hf30 (by omega)) (fun u h1 h2 => ?_)
      rw [ma_nd_set hf30 (by omega) hf30 (by omega)]
      by_cases c : u = w
      · rw [if_pos ⟨rfl, rfl, c⟩, c]; exact he.2.2 8 0 w (by decide) (by decide) (by omega)
      · rw [if_neg (fun y => c y.2.2)]; exact hm u h1 (by omega)
  exact loop2 7 3 X (by decide) (by decide) (e9.refl X) (fun u h1 h2 => by omega)
theorem ks_put {x y kd fr m : Int32} (hz : zok c z) (hc : c ≤ 64) (h : MS X z) (hs : sp_put x y kd fr m z (mz P)) : gx_C (gm_O θ) mX7_put [.ref (gm_am θ), .int x, .int y, .int kd, .int fr, .int m] X (gm_Pi P) := by
  refine em_put (fun K hK => bm_put_0 hK (ks_lacks hz h hs (fun q hq e n0 hk => ?_)))
  subst e
  have hp := h.1 q hq
  have ho := hz.t hq n0
  have h30 := hp.2.2.1
  refine ks_named hp hk (fun i hi hk2 => ⟨fun _ => ⟨vp_in_nI (n := 8) (N := 11) (by decide) (by decide), ?_⟩, fun a => absurd (nI_pos' (by omega)) a⟩) (fun hk2 => ⟨fun a => absurd a (by decide), fun _ => ks_fnd (f := 6) h hk2⟩)
  rintro _ rfl
  have e8 : (8 : Int32).toNatClampNeg = 8 := by decide
  rw [e8]
  have h0 : MS (gm_pA X 1 8 0) z := h.fr ⟨fun _ _ => rfl, fun a ha => ma_pA_ne (by rintro rfl; simp at ha), fun p hp => by rw [ma_pA_at, if_neg (by omega)], fun p i w _ _ _ => by show (gm_pA X 1 8 0).2 0 _ = X.2 0 _; rw [ma_pA_ne (by decide)]⟩
  have b81 : ∀ X2, MS X2 (z_p z []) → ¬ pt_in kd z q i → gm_G θ K mX7_put (gm_Pi P) 81 [(0, .ref (gm_am θ))] [] X2 := fun X2 h2 hb => bm_put_81 hK (ks_fnd (f := 3) h2 (hk2.1 hb))
  have kof : ∀ X2, MS X2 (z_p z []) → ma_nd X2 q i 1 = nI (tr_k (zt z q) i) := fun X2 h2 => ((h2.1 q hq).2.2.2 i hi).1.2.1
  have hk3 : tr_k (zt z q) i ≤ 3 := (ho.2.2.1 i hi).2.1
  refine km_takes3 0 h0.2.2.1 (by decide) (fun ha X2 hf hl => ?_) (fun ha X2 hf => ?_)
  · have h2 := h0.tk hf
    refine km_in (fun a b => ⟨fun q => absurd q (by decide), fun _ => ?_⟩) (fun a => ⟨fun _ => b81 X2 h2 (fun ⟨⟨k', y1, y2⟩, _⟩ => ?_), fun q => absurd rfl q⟩)
    · obtain ⟨kk, y1, y2⟩ := nI_of2 (M := 2) (n := 2) (by decide) (Int32.not_lt.mpr a) b
      refine km_of q i 1 ?_
      rw [kof X2 h2]
      refine pl_eq (b := 3) (fun e3 => b81 X2 h2 (fun z => z.2.1 e3)) (fun e3 => ⟨fun q => absurd q (by decide), fun _ => ?_⟩)
      have hk4 := hk2.2 ⟨⟨kk, y1, y2⟩, e3, ha⟩
      have b117 : (∀ a b : Nat, a + b ≤ (dl_cl (tr_d (zt z q)) (tr_n (zt z q)) i).length → ¬ (fr = nI a ∧ m = nI b)) → gm_G θ K mX7_put (gm_Pi P) 117 [(0, .ref (gm_am θ))] [] X2 := fun hb => bm_put_117 hK (ks_fnd (f := 1) h2 (hk4.2 hb))
      have hlen := dl_len_lt ho.1 hi
      have hen := (dl_en_spec (d := tr_d (zt z q)) hi).2.1
      refine ⟨fun z1 => b117 (fun u v huv w => by rw [w.1] at z1; exact nI_pos (by omega) z1), fun z1 => ⟨fun z2 => b117 (fun u v huv w => by rw [w.2] at z2; exact nI_pos (by omega) z2), fun z2 => ?_⟩⟩
      obtain ⟨u, hu, rfl⟩ := nI_of z1
      obtain ⟨v, hv, rfl⟩ := nI_of z2
      have hp2 : ma_mp X2 q (zt z q) := h2.1 q hq
      refine km_children q i hp2.md ho.1 hi ?_
      refine lg_le hu hv (by omega) (fun huv => ?_) (fun huv => b117 (fun u' v' h1 h2 => ?_))
      · have hk5 := hk4.1 u v huv rfl rfl
        rw [y2, nI_clamp (by omega)] at hk5
        rw [nI_clamp (by omega), hp2.2.1]
        refine ⟨vp_in_nI (by omega) (by decide), pl_eq (b := 30) (fun e30 => ks_fnd (f := 5) h2 (hk5.1 (fun zs => ?_))) (fun e30 => ?_)⟩
        · have := zs.1
          have e9 : tr_n (pt_t z q i u v kk) = tr_n (zt z q) + 1 := rfl
          omega
        · refine km_child q i u hp2.md ho.1 hi (by omega) ?_
          have hd12 : tr_d (zt z q) i < 12 := (ho.2.2.1 i hi).2.2.1
          have hfin : dl_at (tr_d (zt z q)) (tr_n (zt z q)) i u ≤ tr_n (zt z q) := by have := (dl_at_le (k := u) ho.1 hi).2; omega
          have hlin : dl_at (tr_d (zt z q)) (tr_n (zt z q)) i (u + v) ≤ tr_n (zt z q) := by have := (dl_at_le (k := u + v) ho.1 hi).2; omega
          have hfl : dl_at (tr_d (zt z q)) (tr_n (zt z q)) i u ≤ dl_at (tr_d (zt z q)) (tr_n (zt z q)) i (u + v) := by
            by_cases c0 : v = 0
            · rw [c0]; exact Nat.le_refl _
            · exact Nat.le_of_lt (dl_at_lt2 ho.1 hi (u + v) (by omega) huv)
          have hrow := pt_row_ok hz hc ho hi y1 ha
          have hpt : pt_t z q i u v kk = tr_pt (zt z q) (dl_at (tr_d (zt z q)) (tr_n (zt z q)) i u) (dl_at (tr_d (zt z q)) (tr_n (zt z q)) i (u + v)) (zN z, kk, tr_d (zt z q) i + 1, zp z, []) := rfl
          rw [hpt] at hk5
          have hdd : tr_d (tr_pt (zt z q) (dl_at (tr_d (zt z q)) (tr_n (zt z q)) i u) (dl_at (tr_d (zt z q)) (tr_n (zt z q)) i (u + v)) (zN z, kk, tr_d (zt z q) i + 1, zp z, [])) = dp_d (tr_d (zt z q)) i (dl_at (tr_d (zt z q)) (tr_n (zt z q)) i u) (dl_at (tr_d (zt z q)) (tr_n (zt z q)) i (u + v)) := tr_pt_d rfl
          have hdok := dp_ok ho.1 hi (dl_bd_at ho.1 hi u) (dl_bd_at ho.1 hi (u + v)) hfl
          have loop1 : ∀ s j, j + s = v → gm_G θ K mX7_put (gm_Pi P) 159 [(0, .ref (gm_am θ)), (1, .int (nI q)), (3, .int kd), (5, .int (nI v)), (7, .int (nI i)), (9, .int (nI (dl_at (tr_d (zt z q)) (tr_n (zt z q)) i u))), (10, .int (nI (dl_at (tr_d (zt z q)) (tr_n (zt z q)) i (u + j)))), (11, .int (nI j))] [] X2 := by
            intro s
            induction s with
            | zero =>
              intro j hj
              have ej : j = v := by omega
              subst ej
              rw [y2]
              refine bm_put_159 hK (pl_le (fun _ => ?_) (fun c => by omega))
              have hn29 : tr_n (zt z q) ≤ 29 := by omega
              have hdok2 := hdok
              rw [← hdd] at hdok2
              exact kp_fill (t := zt z q) (z := z_p z []) hK h2 rfl hl hq hi hn29 hfin hfl hlin y1 hrow (fun j hj => (ho.2.2.1 j hj).2.2.1) hdok2 hk5.1 (fun a => (hk5.2 a).1) (fun a b => (hk5.2 a).2 b)
            | succ s ih =>
              intro j hj
              have hj2 : u + j < (dl_cl (tr_d (zt z q)) (tr_n (zt z q)) i).length := by omega
              have hin := dl_at_in ho.1 hi hj2
              refine bm_put_159 hK (pl_le (fun c => by omega) (fun _ => km_end q (dl_at (tr_d (zt z q)) (tr_n (zt z q)) i (u + j)) hp2.md (by omega) ?_))
              rw [← dl_at_s ho.1 hi hj2, nI_1]
              exact ih (j + 1) (by omega)
          exact loop1 v 0 (by omega)
      · have w1 := h2.1
        have w2 := h2.2
        rw [nI_eq hu (by omega)] at w1
        rw [nI_eq hv (by omega)] at w2
        omega
    · rcases a with a | a
      · rw [y2] at a; exact nI_pos (by omega) a
      · rw [y2] at a
        have a : nI 2 < nI k' := a
        rw [nI_ltI (by decide) (by omega)] at a
        omega
  · have h2 := h0.tk hf
    have hb : ¬ pt_in kd z q i := fun z => ha z.2.2
    refine km_in (fun a b => ⟨fun q => absurd q (by decide), fun _ => km_of q i 1 ?_⟩) (fun a => ⟨fun _ => b81 X2 h2 hb, fun q => absurd rfl q⟩)
    exact ⟨fun _ => b81 X2 h2 hb, fun _ => ⟨fun _ => b81 X2 h2 hb, fun q => absurd rfl q⟩⟩
end MP
