/-! MOVE: one answer; the component -/
theorem tot_move {c : Nat} {z : zz} (h : zok c z) (hc : c ≤ 64) (p x y fr : Int32) : sp_tot c (sp_move p x y fr z) := by
  have hN := h.N hc
  refine tot_tree (K := fun q Q => sp_named (zt z q) x (fun i => (i = 0 → sp_f z Q 7) ∧ (¬ i = 0 → sp_named (zt z q) y (fun j => (tr_k (zt z q) j = 3 → sp_f z Q 3) ∧ (¬ tr_k (zt z q) j = 3 → ((i ≤ j ∧ j < dl_en (tr_d (zt z q)) (tr_n (zt z q)) i) → sp_f z Q 7) ∧ (¬ (i ≤ j ∧ j < dl_en (tr_d (zt z q)) (tr_n (zt z q)) i) → sp_ix fr ((dl_cl (tr_d (tr_ct (zt z q) i)) (tr_n (tr_ct (zt z q) i)) (mv_w (zt z q) i j)).length + 1)
  (fun a => (¬ tr_sm (mv_t (zt z q) i j a) → sp_f z Q 5) ∧ (tr_sm (mv_t (zt z q) i j a) → (tr_tw (mv_t (zt z q) i j a) → sp_f z Q 4) ∧ (¬ tr_tw (mv_t (zt z q) i j a) → Q (nI (dl_en (tr_d (zt z q)) (tr_n (zt z q)) i - i)) (z_t z q (mv_t (zt z q) i j a))))) (sp_f z Q 1)))) (sp_f z Q 6))) (sp_f z Q 6)) h (fun q hq n0 => ?_)
  have ho := h.t hq n0
  refine tot_named (K := fun i Q => (i = 0 → sp_f z Q 7) ∧ (¬ i = 0 → sp_named (zt z q) y (fun j => (tr_k (zt z q) j = 3 → sp_f z Q 3) ∧ (¬ tr_k (zt z q) j = 3 → ((i ≤ j ∧ j < dl_en (tr_d (zt z q)) (tr_n (zt z q)) i) → sp_f z Q 7) ∧ (¬ (i ≤ j ∧ j < dl_en (tr_d (zt z q)) (tr_n (zt z q)) i) → sp_ix fr ((dl_cl (tr_d (tr_ct (zt z q) i)) (tr_n (tr_ct (zt z q) i)) (mv_w (zt z q) i j)).length + 1)
  (fun a => (¬ tr_sm (mv_t (zt z q) i j a) → sp_f z Q 5) ∧ (tr_sm (mv_t (zt z q) i j a) → (tr_tw (mv_t (zt z q) i j a) → sp_f z Q 4) ∧ (¬ tr_tw (mv_t (zt z q) i j a) → Q (nI (dl_en (tr_d (zt z q)) (tr_n (zt z q)) i - i)) (z_t z q (mv_t (zt z q) i j a))))) (sp_f z Q 1)))) (sp_f z Q 6))) ho (by omega) (fun i hi => ?_) (tot_f h 6)
  refine tot_if (fun _ => tot_f h 7) (fun i0 => ?_)
  refine tot_named (K := fun j Q => (tr_k (zt z q) j = 3 → sp_f z Q 3) ∧ (¬ tr_k (zt z q) j = 3 → ((i ≤ j ∧ j < dl_en (tr_d (zt z q)) (tr_n (zt z q)) i) → sp_f z Q 7) ∧ (¬ (i ≤ j ∧ j < dl_en (tr_d (zt z q)) (tr_n (zt z q)) i) → sp_ix fr ((dl_cl (tr_d (tr_ct (zt z q) i)) (tr_n (tr_ct (zt z q) i)) (mv_w (zt z q) i j)).length + 1)
  (fun a => (¬ tr_sm (mv_t (zt z q) i j a) → sp_f z Q 5) ∧ (tr_sm (mv_t (zt z q) i j a) → (tr_tw (mv_t (zt z q) i j a) → sp_f z Q 4) ∧ (¬ tr_tw (mv_t (zt z q) i j a) → Q (nI (dl_en (tr_d (zt z q)) (tr_n (zt z q)) i - i)) (z_t z q (mv_t (zt z q) i j a))))) (sp_f z Q 1)))) ho (by omega) (fun j hj => ?_) (tot_f h 6)
  refine tot_if (fun _ => tot_f h 3) (fun k3 => tot_if (fun _ => tot_f h 7) (fun hij => ?_))
  have hou : dl_ok (tr_d (tr_ct (zt z q) i)) (tr_n (tr_ct (zt z q) i)) := by rw [tr_ct_d]; exact dc_ok ho.1 (by omega) hi
  have w1 := (mv_wn hi hj hij).1
  have hlen := dl_len_lt hou w1
  have hen := (dl_en_spec (d := tr_d (tr_ct (zt z q) i)) w1).2.1
  have n3 : tr_n (tr_ct (zt z q) i) ≤ tr_n (zt z q) := Nat.sub_le _ _
  have h30 := ho.2.1
  refine tot_ix (K := fun a Q => (¬ tr_sm (mv_t (zt z q) i j a) → sp_f z Q 5) ∧ (tr_sm (mv_t (zt z q) i j a) → (tr_tw (mv_t (zt z q) i j a) → sp_f z Q 4) ∧ (¬ tr_tw (mv_t (zt z q) i j a) → Q (nI (dl_en (tr_d (zt z q)) (tr_n (zt z q)) i - i)) (z_t z q (mv_t (zt z q) i j a))))) (by omega) (fun a ha => ?_) (tot_f h 1)
  exact tot_ifn (fun _ => tot_f h 5) (fun hsm => tot_if (fun _ => tot_f h 4) (fun b => tot_1 (h.zt hq (Or.inr (ho.mv (by omega) hi hj k3 hij (by omega) hsm b))).up))
theorem ls_ins_mem {l : List Nat} {a v y : Nat} (h : y ∈ ls_ins l a v) : y = v ∨ y ∈ l := by
  unfold ls_ins at h
  rw [List.mem_append, List.mem_cons] at h
  rcases h with h | h | h
  · exact Or.inr (List.mem_of_mem_take h)
  · exact Or.inl h
  · exact Or.inr (List.mem_of_mem_drop h)
theorem ls_del_ins {l : List Nat} {a v : Nat} (h : a ≤ l.length) : ls_del (ls_ins l a v) a = l := by
  have e : (l.take a).length = a := by rw [List.length_take]; omega
  unfold ls_ins
  rw [ls_del_app e]
  exact List.take_append_drop a l
/-- inside its branch or not -/
theorem dl_inside {d : Nat → Nat} {n i j : Nat} (h : dl_ok d n) (hi : i < n) (hj : j < n) : (dl_bh d n j < dl_lo d i ∨ dl_bh d n i < dl_bh d n j) ↔ ¬ (i ≤ j ∧ j < dl_en d n i) := by
  have b1 := dl_bh_lo h hi
  have b2 := dl_bh_lo h hj
  constructor
  · rintro a ⟨c1, c2⟩
    by_cases e : i = j
    · subst e; omega
    · have := dl_bh_in h hi (by omega) c2
      omega
  · intro a
    by_cases c1 : i ≤ j
    · have := dl_bh_out h hi (j := j) (by omega) hj
      omega
    · by_cases c2 : i < dl_en d n j
      · have := dl_bh_in h hj (by omega) c2
        omega
      · have := dl_bh_out h hj (j := i) (by omega) hi
        omega
theorem cD_mv {θ : gc_T} {σ : gc_S} {ow : Nat → Nat} {L : Nat → Prop} {t : tr_} {B : Nat → Nat} {ch : Nat → List Nat} {pa : Nat → Option Nat} {i j a : Nat} (ho : dl_ok (tr_d t) (tr_n t)) (h0 : 0 < i) (hi : i < tr_n t) (hj : j < tr_n t) (hij : ¬ (i ≤ j ∧ j < dl_en (tr_d t) (tr_n t) i)) (ha : a ≤ (dl_cl (tr_d (tr_ct t i)) (tr_n (tr_ct t i)) (mv_w t i j)).length)
    (hD : cD θ σ ow L (tr_n t) B (tr_r t) ch pa) (hx1 : ∀ x, x < tr_n (tr_ct t i) → x ≠ mv_w t i j → ch (di_sh i (dl_en (tr_d t) (tr_n t) i - i) x) = (dl_cl (tr_d (tr_ct t i)) (tr_n (tr_ct t i)) x).map (di_sh i (dl_en (tr_d t) (tr_n t) i - i))) (hw1 : ch j = ls_ins ((dl_cl (tr_d (tr_ct t i)) (tr_n (tr_ct t i)) (mv_w t i j)).map (di_sh i (dl_en (tr_d t) (tr_n t) i - i))) a i)
    (hs1 : ∀ x, x < dl_en (tr_d t) (tr_n t) i - i → ch (i + x) = (dl_cl (ds_d (tr_d t) i) (dl_en (tr_d t) (tr_n t) i - i) x).map (i + ·)) (hpi : pa i = some (B j)) (hpa : ∀ y, 0 < y → y < tr_n t → y ≠ i → pa y = some (B (dl_pa (tr_d t) y))) :
    cT θ σ ow L (mv_t t i j a) (fun k => B (mv_un i (dl_en (tr_d t) (tr_n t) i - i) (mv_f t i j a) k)) := by
  obtain ⟨nn, hok, ⟨hwf, hfn⟩, cs, cx, cw⟩ := mv_all ho h0 hi hj hij ha
  obtain ⟨u1, u2⟩ := mv_un_ok hi hfn
  obtain ⟨w1, w2⟩ := mv_wn hi hj hij
  obtain ⟨e1, e2, _, _⟩ := dl_en_spec (d := tr_d t) hi
  have m0 : 0 < dl_en (tr_d t) (tr_n t) i - i := by omega
  have n2 : tr_n t = tr_n (tr_ct t i) + (dl_en (tr_d t) (tr_n t) i - i) := by
    show tr_n t = tr_n t - (dl_en (tr_d t) (tr_n t) i - i) + (dl_en (tr_d t) (tr_n t) i - i)
    omega
  have inv : ∀ k, k < tr_n t → _ := fun k hk => di_sh_inv (f := mv_f t i j a) (m := dl_en (tr_d t) (tr_n t) i - i) (n := tr_n (tr_ct t i)) (k := k) (by omega) hfn
  have ew : di_sh (mv_f t i j a) (dl_en (tr_d t) (tr_n t) i - i) (mv_w t i j) = mv_w t i j := if_pos hwf
  have euw : mv_un i (dl_en (tr_d t) (tr_n t) i - i) (mv_f t i j a) (mv_w t i j) = j := by
    have := mv_un_sh (i := i) (m := dl_en (tr_d t) (tr_n t) i - i) (f := mv_f t i j a) (x := mv_w t i j)
    rw [ew, w2] at this
    exact this
  refine cD_tree hD (by rw [nn]; exact hok) (by rw [nn]; exact u1) (by rw [nn]; exact u2) (fun k hk => ?_) (fun k hk => ?_) (fun k k' hk hk' _ hm => ?_)
  · rw [nn] at hk
    exact mv_rows (t := t) (w := mv_w t i j) hi hfn hk
  · rw [nn] at hk ⊢
    rcases inv k hk with ⟨x, hx, rfl⟩ | ⟨x, hx, rfl⟩
    · rw [cs x hx, mv_un_s hx, hs1 x hx, List.map_map]
      exact ls_map_congr (fun v hv => mv_un_s ((dl_cl_pa (ds_ok ho hi) hx).mp hv).2.1)
    · by_cases e : x = mv_w t i j
      · rw [e, ew, cw, euw, hw1, ← ls_map_ins, List.map_map]
        have e5 : mv_un i (dl_en (tr_d t) (tr_n t) i - i) (mv_f t i j a) (mv_f t i j a) = i := mv_un_s (x := 0) m0
        rw [e5]
        congr 1
        exact ls_map_congr (fun v _ => mv_un_sh)
      · rw [cx x hx e, mv_un_sh, hx1 x hx e, List.map_map]
        exact ls_map_congr (fun v _ => mv_un_sh)
  · rw [nn] at hk hk'
    generalize mv_un i (dl_en (tr_d t) (tr_n t) i - i) (mv_f t i j a) k' = y at hm ⊢
    have key : ∀ x v, x < tr_n (tr_ct t i) → v ∈ dl_cl (tr_d (tr_ct t i)) (tr_n (tr_ct t i)) x → pa (di_sh i (dl_en (tr_d t) (tr_n t) i - i) v) = some (B (di_sh i (dl_en (tr_d t) (tr_n t) i - i) x)) := fun x v hx hv => by
      rw [tr_ct_d] at hv
      have hm2 := dc_mem ho h0 hi hx hv
      have hl := di_sh_lt (f := i) (m := dl_en (tr_d t) (tr_n t) i - i) hx
      obtain ⟨y0, y1, y2⟩ := (dl_cl_pa ho (i := di_sh i (dl_en (tr_d t) (tr_n t) i - i) x) (by omega)).mp hm2
      rw [hpa _ y0 y1 (di_sh_out m0), y2]
    rcases inv k hk with ⟨x, hx, rfl⟩ | ⟨x, hx, rfl⟩
    · rw [mv_un_s hx, hs1 x hx] at hm
      rw [mv_un_s hx]
      obtain ⟨v, hv, rfl⟩ := List.mem_map.mp hm
      have v0 := ((dl_cl_pa (ds_ok ho hi) hx).mp hv).1
      have hm2 : i + v ∈ dl_cl (tr_d t) (tr_n t) (i + x) := by rw [dc_cl_s ho h0 hi hx]; exact hm
      obtain ⟨y0, y1, y2⟩ := (dl_cl_pa ho (by omega)).mp hm2
      rw [hpa _ y0 y1 (by omega), y2]
    · by_cases e : x = mv_w t i j
      · subst e
        rw [ew, euw, hw1] at hm
        rw [ew, euw]
        rcases ls_ins_mem hm with h | h
        · rw [h]; exact hpi
        · obtain ⟨v, hv, rfl⟩ := List.mem_map.mp h
          rw [key _ v hx hv, w2]
      · rw [mv_un_sh, hx1 x hx e] at hm
        rw [mv_un_sh]
        obtain ⟨v, hv, rfl⟩ := List.mem_map.mp hm
        exact key x v hx hv
section KM
variable {θ : gc_T} {g : Nat → Nat} {σ : gc_S} {z : zz} {ow TR : Nat → Nat} {A : Nat → Nat → Nat} {P : Int32 → gc_S → Prop} {c n cc ss : Nat}
theorem kn_move {x y y2 fr : Int32} (hθ : cTh θ) (hz : zok c z) (h64 : c ≤ 64) (h : CSo θ g σ z ow TR A) (hs : sp_move x y y2 fr z (cz θ g P)) (hn : 300 ≤ n := by omega) (hc : 3000 ≤ cc := by omega) (hl : 30000 ≤ ss := by omega) : gx_C (gc_O θ) (nX0_move n cc ss) [.ref (g 0), .int x, .int y, .int y2, .int fr] σ (gc_Pi P) := by
  obtain ⟨n, rfl⟩ : ∃ k, n = k + 1 := ⟨n - 1, by omega⟩
  refine ec_X0_move (fun K hK => bc_X0_move_0 hK ⟨3, 222, ⟨by omega, by omega⟩, h.is 0, kn_tree h (fun q hq e n0 => ⟨h.is 0, ?_⟩) (fun q hq e n0 => ⟨h.is 1, bc_X0_move_220 hK ⟨h.is 0, kn_fnd hθ h ((hs.1 q hq e).1 n0)⟩⟩) (fun a => ⟨h.is 1, bc_X0_move_220 hK ⟨h.is 0, kn_fnd hθ h (hs.2 a)⟩⟩)⟩)
  have hk := (hs.1 q hq e).2 n0
  have ho := hz.t hq n0
  have hN : zN z ≤ 100000 := by have := hz.2.1; omega
  have hk' : sp_named (zt z q) y (fun i => nI (tr_a (zt z q) i) = y ∧ _) _ := ⟨fun i hi e => ⟨e, hk.1 i hi e⟩, hk.2⟩
  refine kn_node2 hz h hq n0 hk' (fun i hi hk2 => ?_) (fun a => ⟨h.is 1, bc_X0_move_220 hK ⟨h.is 0, kn_fnd hθ h a⟩⟩)
  obtain ⟨e1, hk3⟩ := hk2
  have hW := ((h.2.2.2.2.1.1 q hq).2 n0).2
  have iT := (h.tin hq n0).2.1
  obtain ⟨ah0, bh0, hk0⟩ : ∃ ah bh, cK σ (TR q) ah bh (zt z q) (A q) := by
    obtain ⟨_, ⟨ah, bh, hk0, _⟩, _⟩ := hW
    exact ⟨ah, bh, hk0⟩
  refine ⟨TR q, rfl, iT, ?_⟩
  rw [hk0.2.1]
  refine ⟨fun e0 => bc_X0_move_32 hK ⟨g 0, rfl, h.is 0, kn_need h (fun b => absurd rfl b) (fun _ => ⟨h.is 1, bc_X0_move_220 hK ⟨h.is 0, kn_fnd hθ h (hk3.1 (hW.1.2.2.2 i 0 hi (by omega) (Option.some.inj e0)))⟩⟩)⟩, fun e0 => bc_X0_move_32 hK ⟨g 0, rfl, h.is 0, kn_need h (fun _ => ⟨h.is 0, ?_⟩) (fun a => absurd a (by decide))⟩⟩
  have i0 : ¬ i = 0 := fun y => e0 (by rw [y])
  have hk4 := hk3.2 i0
  have hk4' : sp_named (zt z q) y2 (fun j => nI (tr_a (zt z q) j) = y2 ∧ _) _ := ⟨fun j hj e => ⟨e, hk4.1 j hj e⟩, hk4.2⟩
  refine kn_node2 hz h hq n0 hk4' (fun j hj hk5 => ?_) (fun a => ⟨h.is 1, bc_X0_move_220 hK ⟨h.is 0, kn_fnd hθ h a⟩⟩)
  obtain ⟨e2, hk5⟩ := hk5
  have hNi := hW.1.2.1 i hi
  have hNj := hW.1.2.1 j hj
  have kj := hNj.2.2.1
  refine ⟨A q j, rfl, hNj.isN, kc_bears (fun b => ⟨h.is 0, kn_need h (fun _ => ⟨hNj.isN, A q i, rfl, hNi.isN, ?_⟩) (fun a => absurd a (by decide))⟩) (fun b => ⟨h.is 0, kn_need h (fun b => absurd rfl b) (fun _ => ⟨h.is 1, bc_X0_move_220 hK ⟨h.is 0, kn_fnd hθ h (hk5.1 (by show rw_k (tr_r (zt z q) j) = 3; omega))⟩⟩)⟩)⟩
  have k3 : ¬ tr_k (zt z q) j = 3 := fun u => by
    have u : rw_k (tr_r (zt z q) j) = 3 := u
    omega
  have hk6 := hk5.2 k3
  have nbi := hk0.2.2.2 i hi
  have nbj := hk0.2.2.2 j hj
  rw [nbj.2.2.1, nbi.2.2.2.1, nbi.2.2.1]
  have bi := dl_bh_lo ho.1 hi
  have esz : dl_bh (tr_d (zt z q)) (tr_n (zt z q)) i - dl_lo (tr_d (zt z q)) i + 1 = dl_en (tr_d (zt z q)) (tr_n (zt z q)) i - i := by clear hs hk hk' hk3 hk4 hk4' hk5 hk6; omega
  have bj := dl_bh_lo ho.1 hj
  have ins := dl_inside ho.1 hi hj
  have h30 := ho.2.1
  have good : ¬ (i ≤ j ∧ j < dl_en (tr_d (zt z q)) (tr_n (zt z q)) i) → gc_G θ K (nX0_move (n + 1) cc ss) (gc_Pi P) 84 [(0, va_rf (some (g 0))), (1, .int x), (2, .int y), (3, .int y2), (4, .int fr), (5, va_rf (some (TR q))), (6, va_rf (some (A q i)))] [va_rf (some (g 0))] σ (cc - 3) (ss - 222) := fun hij => by
    have hk7 := hk6.2 hij
    refine bc_X0_move_84 hK (bc_X0_move_89 hK ⟨g 0, rfl, h.is 0, kn_need h (fun _ => ?_) (fun a => absurd a (by decide))⟩)
    refine ⟨TR q, rfl, 100, 2300, ⟨by omega, by omega⟩, iT, kc_copy hθ h.2.2.2.1.1 h.1.2 hW ho.sm (fun σ1 ow1 tr B x1 w1 o1 hW1 htr hB => ?_)⟩
    obtain ⟨hT1, ⟨ah, bh, hK1, oa, ob⟩, otr, hp0⟩ := id hW1
    refine ⟨tr, rfl, hK1.1.1, kc_find hW1 ho.2.1 (fun i' hi' e3 _ => ?_) (fun e3 => absurd e1 (e3 i hi))⟩
    obtain rfl := nm_uniq ho hN hi hi' e1 e3
    refine ⟨hK1.1.1, kc_find hW1 ho.2.1 (fun j' hj' e3 _ => ?_) (fun e3 => absurd e2 (e3 j hj))⟩
    obtain rfl := nm_uniq ho hN hj hj' e2 e3
    have hY : cY θ σ ow tr ah bh (B 0) σ1 ow1 := ⟨x1, w1, h.2.2.2.1.1, o1, ⟨hK1.1, hK1.2.1, otr, oa, ob⟩, htr⟩
    have hD := hT1.D hp0
    have hi0 : 0 < i' := by omega
    obtain ⟨p, ep⟩ : ∃ p, p = dl_pa (tr_d (zt z q)) i' := ⟨_, rfl⟩
    obtain ⟨m, em⟩ : ∃ m, m = dl_en (tr_d (zt z q)) (tr_n (zt z q)) i' - i' := ⟨_, rfl⟩
    obtain ⟨d1, d2, _, _⟩ := dl_en_spec (d := tr_d (zt z q)) hi
    have m0 : 0 < m := by omega
    have hpl := (dc_pa ho.1 hi0 hi).1
    rw [← ep] at hpl
    have hpn : p < tr_n (zt z q) := by omega
    obtain ⟨a0, ha0, hcp⟩ := dc_cl_p ho.1 hi0 hi
    obtain ⟨w1', w2'⟩ := mv_wn hi hj hij
    rw [← ep, ← em, ← tr_ct_d] at hcp
    rw [← em, ← ep, ← tr_ct_d] at ha0
    rw [← em] at w2'
    have nu : tr_n (tr_ct (zt z q) i') = tr_n (zt z q) - m := by rw [em]; rfl
    rw [← nu] at ha0 hcp
    have ha0' : a0 ≤ ((dl_cl (tr_d (tr_ct (zt z q) i')) (tr_n (tr_ct (zt z q) i')) p).map (di_sh i' m)).length := by rw [List.length_map]; exact ha0
    obtain ⟨c0, e804, hl0⟩ := (hT1.2.1 p hpn).2.2.2.2.2.2.2
    have e803 := hT1.2.2.1 i' hi0 hi
    rw [← ep] at e803
    have lp : ∀ v ∈ dl_cl (tr_d (zt z q)) (tr_n (zt z q)) p, v < tr_n (zt z q) := fun v hv => ((dl_cl_pa ho.1 hpn).mp hv).2.1
    refine ⟨B i', rfl, (hT1.2.1 i' hi).isN, B p, e803, (hT1.2.1 p hpn).isN, c0, e804, hl0.2.1, ?_⟩
    refine kd_removeO (i := p) (j := a0) (v := i') hθ hY hB hD hpn hi (by show a0 < (dl_cl (tr_d (zt z q)) (tr_n (zt z q)) p).length; rw [hcp, ls_ins_len ha0']; omega) (by show (dl_cl (tr_d (zt z q)) (tr_n (zt z q)) p).getD a0 0 = i'; rw [hcp, ls_ins_get ha0', if_neg (Nat.lt_irrefl _), if_pos rfl]) lp (fun v hv => ?_) e804 (fun σ2 hY2 hD2 => ?_)
    · show (dl_cl (tr_d (zt z q)) (tr_n (zt z q)) p).getD v 0 ≠ i'
      rw [hcp, ls_ins_get ha0', if_pos hv, ls_map_get (by rw [List.length_map] at ha0'; omega)]
      exact di_sh_out (y := 0) m0
    have esp : di_sh i' m p = p := if_pos hpl
    have hD2 : cD θ σ2 ow1 (cLg g) (tr_n (zt z q)) B (tr_r (zt z q)) (fun u => if u = p then ls_del (dl_cl (tr_d (zt z q)) (tr_n (zt z q)) p) a0 else dl_cl (tr_d (zt z q)) (tr_n (zt z q)) u) (fun u => if u = 0 then none else some (B (dl_pa (tr_d (zt z q)) u))) := hD2
    obtain ⟨ch2, ech2⟩ : ∃ ch2 : Nat → List Nat, ch2 = fun u => if u = p then ls_del (dl_cl (tr_d (zt z q)) (tr_n (zt z q)) p) a0 else dl_cl (tr_d (zt z q)) (tr_n (zt z q)) u := ⟨_, rfl⟩
    rw [← ech2] at hD2
    have cx2 : ∀ v, v < tr_n (tr_ct (zt z q) i') → ch2 (di_sh i' m v) = (dl_cl (tr_d (tr_ct (zt z q) i')) (tr_n (tr_ct (zt z q) i')) v).map (di_sh i' m) := fun v hv => by
      rw [ech2]
      show (if di_sh i' m v = p then ls_del (dl_cl (tr_d (zt z q)) (tr_n (zt z q)) p) a0 else dl_cl (tr_d (zt z q)) (tr_n (zt z q)) (di_sh i' m v)) = _
      by_cases e : v = p
      · rw [e, esp, if_pos rfl, hcp, ls_del_ins ha0']
      · rw [if_neg (fun u => e (di_sh_inj (f := i') (m := m) (by rw [u, esp])))]
        have := dc_cl_x ho.1 hi0 hi (x := v) (by rw [← em, ← nu]; exact hv) (by rw [← ep]; exact e)
        rw [← em, ← tr_ct_d, ← nu] at this
        exact this
    have cs2 : ∀ v, v < m → ch2 (i' + v) = (dl_cl (ds_d (tr_d (zt z q)) i') m v).map (i' + ·) := fun v hv => by
      rw [ech2]
      show (if i' + v = p then _ else dl_cl (tr_d (zt z q)) (tr_n (zt z q)) (i' + v)) = _
      rw [if_neg (by omega), em]
      exact dc_cl_s ho.1 hi0 hi (by omega)
    have h2 := hY2.cs hθ h
    have bad : fr < 0 ∨ nI ((dl_cl (tr_d (tr_ct (zt z q) i')) (tr_n (tr_ct (zt z q) i')) (mv_w (zt z q) i' j')).length + 1) ≤ fr → gc_G θ K (nX0_move (n + 1) cc ss) (gc_Pi P) 154 [(0, va_rf (some (g 0))), (1, .int x), (4, .int fr), (6, va_rf (some (A q i'))), (8, va_rf (some tr)), (9, va_rf (some (B i'))), (10, va_rf (some (B j')))] [va_rf (some (g 0))] σ2 (cc - 3 - 100) (ss - 222 - 2300) := fun b => by
      have hou : dl_ok (tr_d (tr_ct (zt z q) i')) (tr_n (tr_ct (zt z q) i')) := by rw [tr_ct_d]; exact dc_ok ho.1 hi0 hi
      have hlen := dl_len_lt hou w1'
      have hen := (dl_en_spec (d := tr_d (tr_ct (zt z q) i')) w1').2.1
      exact bc_X0_move_154 hK (bc_X0_move_155 hK ⟨g 0, rfl, h2.is 0, kn_need h2 (fun b => absurd rfl b) (fun _ => ⟨h2.is 1, bc_X0_move_220 hK ⟨h2.is 0, kn_fnd hθ h2 (hk7.2 (nI_out (by omega) b))⟩⟩)⟩)
    have hou : dl_ok (tr_d (tr_ct (zt z q) i')) (tr_n (tr_ct (zt z q) i')) := by rw [tr_ct_d]; exact dc_ok ho.1 hi0 hi
    have hlen := dl_len_lt hou w1'
    have hen := (dl_en_spec (d := tr_d (tr_ct (zt z q) i')) w1').2.1
    obtain ⟨c1, e6, hl1⟩ := (hD2.1 j' hj).2.2.2.2.2.2.2
    have chj := cx2 _ w1'
    rw [w2'] at chj
    rw [chj] at hl1
    refine ⟨fun b => bad (Or.inl b), fun f0 => ⟨B j', rfl, (hD2.1 j' hj).isN, c1, e6, hl1.2.1, kc_size hl1 ?_⟩⟩
    rw [List.length_map, List.length_map]
    refine ⟨fun b => bad (Or.inr (nI_gt (by omega) b)), fun b => ?_⟩
    obtain ⟨a, ha, rfl⟩ := nI_ix (n := (dl_cl (tr_d (tr_ct (zt z q) i')) (tr_n (tr_ct (zt z q) i')) (mv_w (zt z q) i' j')).length + 1) (by omega) f0 (nI_nle2 (by omega) b)
    have hk8 := hk7.1 a ha rfl
    refine bc_X0_move_155 hK ⟨g 0, rfl, h2.is 0, kn_need h2 (fun _ => ⟨B j', rfl, 1, 60, ⟨by omega, by omega⟩, (hD2.1 j' hj).isN, ?_⟩) (fun a => absurd a (by decide))⟩
    refine kd_addAt (i := j') (v := i') (j := a) hθ hY2 hB hD2 hj hi (by rw [chj, List.length_map]; omega) (by rw [chj, List.length_map]; omega) (fun σ3 ow3 hY3 hD3 => ?_)
    rw [chj] at hD3
    have hT := cD_mv ho.1 hi0 hi hj hij (a := a) (by omega) hD3 (fun v hv hvw => by
      rw [← em]
      show (if di_sh i' m v = j' then _ else _) = _
      rw [if_neg (fun u => hvw (di_sh_inj (f := i') (m := m) (by rw [u, w2'])))]
      exact cx2 v hv) (by rw [← em]; exact if_pos rfl) (fun v hv => by
      rw [← em] at hv ⊢
      show (if i' + v = j' then _ else _) = _
      rw [if_neg (by omega)]
      exact cs2 v hv) (if_pos rfl) (fun v v0 hv hvi => by
      show (if v = i' then _ else if v = 0 then none else some (B (dl_pa (tr_d (zt z q)) v))) = _
      rw [if_neg hvi, if_neg (by omega)])
    obtain ⟨nn, hok, ⟨hwf, hfn⟩, _⟩ := mv_all ho.1 hi0 hi hj hij (a := a) (by omega)
    obtain ⟨u1, u2⟩ := mv_un_ok hi hfn
    have htw := tw_mv ho.1 ho.2.2.2.2.2 hi0 hi hj hij (a := a) (by omega)
    have n3 : tr_n (tr_ct (zt z q) i') ≤ tr_n (zt z q) := Nat.sub_le _ _
    have eu : ∀ v, v < mv_f (zt z q) i' j' a → mv_un i' (dl_en (tr_d (zt z q)) (tr_n (zt z q)) i' - i') (mv_f (zt z q) i' j' a) v = di_sh i' (dl_en (tr_d (zt z q)) (tr_n (zt z q)) i' - i') v := fun v hv => if_pos hv
    have eu0 : mv_un i' (dl_en (tr_d (zt z q)) (tr_n (zt z q)) i' - i') (mv_f (zt z q) i' j' a) 0 = 0 := by rw [eu 0 (by omega)]; exact if_pos hi0
    have euw : mv_un i' (dl_en (tr_d (zt z q)) (tr_n (zt z q)) i' - i') (mv_f (zt z q) i' j' a) (mv_w (zt z q) i' j') = j' := by rw [eu _ hwf, ← em]; exact w2'
    have hB' : ∀ k, k < tr_n (mv_t (zt z q) i' j' a) → (fun k => B (mv_un i' (dl_en (tr_d (zt z q)) (tr_n (zt z q)) i' - i') (mv_f (zt z q) i' j' a) k)) k ∉ gc_d σ := fun k hk => hB _ (u1 k (by rw [← nn]; exact hk))
    have ll : ∀ u, u < tr_n (mv_t (zt z q) i' j' a) → (tr_l (mv_t (zt z q) i' j' a) u).length ≤ 6 ∧ ∀ c ∈ tr_l (mv_t (zt z q) i' j' a) u, c < 256 := fun u hu => by
      rw [nn] at hu
      have := (mv_rows (t := zt z q) (w := mv_w (zt z q) i' j') hi hfn hu).2.2.1
      have e : tr_l (mv_t (zt z q) i' j' a) u = tr_l (zt z q) (mv_un i' (dl_en (tr_d (zt z q)) (tr_n (zt z q)) i' - i') (mv_f (zt z q) i' j' a) u) := this
      rw [e]
      exact ho.ll (u1 u hu)
    have hr := hY3.2.2.2.2.1
    have hp3 : gc_R σ3 803 ((fun k => B (mv_un i' (dl_en (tr_d (zt z q)) (tr_n (zt z q)) i' - i') (mv_f (zt z q) i' j' a) k)) 0) = none := by
      show gc_R σ3 803 (B (mv_un i' (dl_en (tr_d (zt z q)) (tr_n (zt z q)) i' - i') (mv_f (zt z q) i' j' a) 0)) = none
      rw [eu0, hD3.2.1 0 (by omega)]
      show (if 0 = i' then _ else if 0 = 0 then none else _) = none
      rw [if_neg (by omega), if_pos rfl]
    refine ⟨tr, rfl, hr.1.1, kc_number hT hr.1 (by rw [hr.2.1]; show some (B 0) = some (B (mv_un i' (dl_en (tr_d (zt z q)) (tr_n (zt z q)) i' - i') (mv_f (zt z q) i' j' a) 0)); rw [eu0]) (by rw [nn]; omega) (fun hsm σ4 nf hK4 => ?_) (fun hsm σ4 nf => ?_) (by rw [nn]; omega)⟩
    · obtain ⟨h4, hT4, h5⟩ := hY3.grown (q := q) hθ h hT hB' hp3 nf
      obtain ⟨x4, _⟩ := hY3.num hT hB' nf
      have hk9 := hk8.2 hsm
      have i4 := hT4.2.1 (mv_w (zt z q) i' j') (by rw [nn]; omega)
      have ej : B j' = (fun k => B (mv_un i' (dl_en (tr_d (zt z q)) (tr_n (zt z q)) i' - i') (mv_f (zt z q) i' j' a) k)) (mv_w (zt z q) i' j') := by
        show B j' = B (mv_un i' (dl_en (tr_d (zt z q)) (tr_n (zt z q)) i' - i') (mv_f (zt z q) i' j' a) (mv_w (zt z q) i' j'))
        rw [euw]
      rw [← ej] at i4
      refine ⟨h4.is 0, kn_need h4 (fun _ => ⟨i4.isN, ?_⟩) (fun a => absurd a (by decide))⟩
      rw [ej]
      refine kc_clashesT (i := mv_w (zt z q) i' j') hT4 (by rw [nn]; omega) ll (fun w => ⟨fun e5 => absurd e5 (by decide), fun _ => bc_X0_move_193 hK ⟨g 0, rfl, h4.is 0, kn_need h4 (fun b => absurd rfl b) (fun _ => ⟨h4.is 1, bc_X0_move_220 hK ⟨h4.is 0, kn_fnd hθ h4 (hk9.1 (htw.mpr w))⟩⟩)⟩⟩) (fun w => ⟨fun _ => ?_, fun e5 => absurd rfl e5⟩)
      have nw : ¬ tr_tw (mv_t (zt z q) i' j' a) := fun u => w (htw.mp u)
      have n3 : gc_n σ4 (g 3) = 8 := h4.n 3
      have hfin := hk9.2 nw
      subst e
      refine bc_X0_move_193 hK ⟨g 0, rfl, h4.is 0, kn_need h4 (fun _ => ⟨h4.is 0, g 3, h4.ln 2 0 3, h4.is 3, by rw [n3]; exact vp_in_nI hq (by decide), fun v hv => by obtain rfl := Option.some.inj hv; exact hK4.1.1, ?_⟩) (fun a => absurd a (by decide))⟩
      rw [nI_clamp (by omega)]
      rintro _ rfl
      have hNi4 : gc_isN (gc_sQ σ4 (g 3) q (some tr)) (A q i') := x4.isN hNi.isN
      refine ⟨A q i', rfl, hNi4, hNi4, ?_⟩
      have s4 := x4.2.2.2 (A q i') (Or.inl hNi.2.1) (fun u => u)
      have g6 : gc_I (gc_sQ σ4 (g 3) q (some tr)) 806 (A q i') = nI (dl_bh (tr_d (zt z q)) (tr_n (zt z q)) i') := by
        show gc_I σ4 806 (A q i') = _
        rw [s4.2.2.2.2.1 806 (by decide)]; exact nbi.2.2.1
      have g7 : gc_I (gc_sQ σ4 (g 3) q (some tr)) 807 (A q i') = nI (dl_lo (tr_d (zt z q)) i') := by
        show gc_I σ4 807 (A q i') = _
        rw [s4.2.2.2.2.1 807 (by decide)]; exact nbi.2.2.2.1
      rw [g6, g7, pk_sub bi.1, nI_1, esz]
      exact hfin _ ⟨_, _, _, h5 hK4⟩
    · obtain ⟨h4, _⟩ := hY3.grown (q := q) hθ h hT hB' hp3 nf
      exact ⟨h4.is 0, kn_need h4 (fun b => absurd rfl b) (fun _ => ⟨h4.is 1, bc_X0_move_220 hK ⟨h4.is 0, kn_fnd hθ h4 (hk8.1 hsm)⟩⟩)⟩
  refine pl_lt (fun c1 => good (ins.mp (Or.inl c1))) (fun c1 => ⟨hNj.isN, hNi.isN, pl_le (fun c2 => ?_) (fun c2 => good (ins.mp (Or.inr c2)))⟩)
  refine bc_X0_move_89 hK ⟨g 0, rfl, h.is 0, kn_need h (fun b => absurd rfl b) (fun _ => ⟨h.is 1, bc_X0_move_220 hK ⟨h.is 0, kn_fnd hθ h (hk6.1 ?_)⟩⟩)⟩
  exact Classical.byContradiction (fun u => by
    have := ins.mpr u
    omega)
end KM
