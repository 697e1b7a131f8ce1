/-! take(): the model meets the specification -/
def e9s (X X' : gm_X) : Prop := X'.1 = X.1 ∧ (∀ b, b ≠ 0 → b ≠ 1 → X'.2 b = X.2 b) ∧ (∀ j, j ≠ 9 → X'.2 1 j = X.2 1 j) ∧ ∀ p k w, p ≠ 9 → k < 30 → w < 19 → ma_nd X' p k w = ma_nd X p k w
theorem e9s.set {X X' : gm_X} {k w : Nat} {v : Int32} (h : e9s X X') (hk : k < 30) (hw : w < 19) : e9s X (gm_pA X' 0 (19 * (30 * 9 + k) + w) v) :=
  ⟨h.1, fun b hb hb1 => by rw [ma_pA_ne hb]; exact h.2.1 b hb hb1, fun j hj => by rw [ma_pA_ne (by decide)]; exact h.2.2.1 j hj, fun p j u hp hj hu => by rw [ma_nd_set hk hw hj hu, if_neg (fun y => hp y.1)]; exact h.2.2.2 p j u hp hj hu⟩
theorem e9s.car {X X' X'' : gm_X} {p i k : Nat} (h : e9s X X') (c : ma_car X' X'' p i 9 k) : e9s X X'' :=
  ⟨c.1.trans h.1, fun b hb hb1 => (c.2.1 b hb).trans (h.2.1 b hb hb1), fun j hj => by rw [c.2.1 1 (by decide)]; exact h.2.2.1 j hj, fun q j u hq hj hu => (c.2.2.2 q j u (fun y => hq y.1) hj hu).trans (h.2.2.2 q j u hq hj hu)⟩
theorem e9s.sz {X X' : gm_X} {v : Int32} (h : e9s X X') : e9s X (gm_pA X' 1 9 v) :=
  ⟨h.1, fun b hb hb1 => by rw [ma_pA_ne hb1]; exact h.2.1 b hb hb1, fun j hj => by rw [ma_pA_at, if_neg hj]; exact h.2.2.1 j hj, fun p j u hp hj hu => by show (gm_pA X' 1 9 v).2 0 _ = _; rw [ma_pA_ne (by decide)]; exact h.2.2.2 p j u hp hj hu⟩
theorem e9s.refl (X : gm_X) : e9s X X := ⟨rfl, fun _ _ _ => rfl, fun _ _ => rfl, fun _ _ _ _ _ _ => rfl⟩
theorem e9s.ms {X X' : gm_X} (h : e9s X X') : ms_fr X X' := ⟨fun f _ => by rw [h.1], fun a ha => h.2.1 a (by rintro rfl; simp at ha) (by rintro rfl; simp at ha), fun p hp => h.2.2.1 p (by omega), fun p i w hp hi hw => h.2.2.2 p i w (by omega) hi hw⟩
theorem ma_mr.dn {X : gm_X} {i q : Nat} {r : rw_} {v : Int32} (h : ma_mr X q i r) (ho : rw_ok r) (hi : i < 30) (hv : v = nI (rw_d r - 1)) : ma_mr (gm_pA X 0 (19 * (30 * q + i) + 2) v) q i (rw_dn 1 r) := by
  have e : ∀ w, w < 19 → w ≠ 2 → ma_nd (gm_pA X 0 (19 * (30 * q + i) + 2) v) q i w = ma_nd X q i w := fun w hw h2 => by rw [ma_nd_set hi (by decide) hi hw, if_neg (fun y => h2 y.2.2)]
  have l1 := ho.2.2.2.1
  have l2 := ho.2.2.2.2.2.1
  refine ⟨by rw [e 0 (by decide) (by decide)]; exact h.1, by rw [e 1 (by decide) (by decide)]; exact h.2.1, by rw [ma_nd_set hi (by decide) hi (by decide), if_pos ⟨rfl, rfl, rfl⟩]; exact hv, ⟨by rw [e 3 (by decide) (by decide)]; exact h.2.2.2.1.1, fun u hu => ?_⟩, ⟨by rw [e 10 (by decide) (by decide)]; exact h.2.2.2.2.1, fun u hu => ?_⟩⟩
  · have hu : u < (rw_l r).length := hu
    rw [e _ (by omega) (by omega)]; exact h.2.2.2.1.2 u hu
  · have hu : u < (rw_t r).length := hu
    rw [e _ (by omega) (by omega)]; exact h.2.2.2.2.2 u hu
section MT
variable {θ : gm_T} {P : Int32 → gm_X → Prop} {X : gm_X} {z : zz} {c : Nat}
theorem ks_take {x y : Int32} (hz : zok c z) (hc : c ≤ 64) (h : MS X z) (hs : sp_take x y z (mz P)) : gx_C (gm_O θ) mX7_take [.ref (gm_am θ), .int x, .int y] X (gm_Pi P) := by
  refine em_take (fun K hK => bm_take_0 hK (ks_lacks hz h hs (fun q hq e n0 hk => ?_)))
  subst e
  have hp := h.1 q hq
  have ho := hz.t hq n0
  have h30 := hp.2.2.1
  refine ks_named hp hk (fun i hi hk2 => ⟨fun _ => pl_eq (a := i) (b := 0) (fun i0 => ks_fnd (f := 7) h (hk2.1 i0)) (fun i0 => ?_), fun a => absurd (nI_pos' (by omega)) a⟩) (fun hk2 => ⟨fun a => absurd a (by decide), fun _ => ks_fnd (f := 6) h hk2⟩)
  have hk2 := hk2.2 i0
  have hi0 : 0 < i := by omega
  obtain ⟨e1, e2, e3, e4⟩ := dl_en_spec (d := tr_d (zt z q)) hi
  refine km_children q i hp.md ho.1 hi (km_end q i hp.md hi ⟨vp_in_nI (n := 9) (N := 11) (by decide) (by decide), ?_⟩)
  have e9' : (9 : Int32).toNatClampNeg = 9 := by decide
  rw [e9']
  rintro _ rfl
  have hok : ∀ j, j < tr_n (zt z q) - 1 → rw_ok (tr_r (tr_tk (zt z q) i) j) := fun j hj => by
    obtain ⟨j', hj', hji, rfl⟩ := dt_sh_inv (i := i) hj
    have ok := (hp.2.2.2 j' hj').2
    obtain ⟨q1, q2, q3, q4, q5⟩ := tr_tk_at (t := zt z q) hji
    have q1 : rw_a (tr_r (tr_tk (zt z q) i) (dt_sh i j')) = rw_a (tr_r (zt z q) j') := q1
    have q2 : rw_k (tr_r (tr_tk (zt z q) i) (dt_sh i j')) = rw_k (tr_r (zt z q) j') := q2
    have q3 : rw_l (tr_r (tr_tk (zt z q) i) (dt_sh i j')) = rw_l (tr_r (zt z q) j') := q3
    have q4 : rw_t (tr_r (tr_tk (zt z q) i) (dt_sh i j')) = rw_t (tr_r (zt z q) j') := q4
    have q5 : rw_d (tr_r (tr_tk (zt z q) i) (dt_sh i j')) ≤ rw_d (tr_r (zt z q) j') := q5
    unfold rw_ok
    rw [q1, q2, q3, q4]
    exact ⟨ok.1, ok.2.1, by have := ok.2.2.1; omega, ok.2.2.2⟩
  have loop : ∀ s k X', k + s = tr_n (zt z q) → e9s X X' → X'.2 1 9 = nI (if k ≤ i then k else k - 1) → (∀ j, j < k → j ≠ i → ma_mr X' 9 (dt_sh i j) (tr_r (tr_tk (zt z q) i) (dt_sh i j))) → gm_G θ K mX7_take (gm_Pi P) 77 [(0, .ref (gm_am θ)), (1, .int (nI q)), (4, .int (nI i)), (5, .int (nI (dl_cl (tr_d (zt z q)) (tr_n (zt z q)) i).length)), (6, .int (nI (dl_en (tr_d (zt z q)) (tr_n (zt z q)) i))), (7, .int (nI k))] [] X' := by
    intro s
    induction s with
    | zero =>
      intro k X' hk3 he hsz hm
      have hszq : X'.2 1 q = nI (tr_n (zt z q)) := by rw [he.2.2.1 q (by omega)]; exact hp.2.1
      have h3 := h.fr he.ms
      refine bm_take_77 hK ⟨vp_in_nI (by omega) (by decide), ?_⟩
      rw [nI_clamp (by omega), hszq]
      rw [if_neg (by omega)] at hsz
      have hm9 : ma_mp X' 9 (tr_tk (zt z q) i) := by
        refine ⟨by decide, by rw [hsz]; show _ = nI (tr_n (zt z q) - 1); congr 1; omega, by show tr_n (zt z q) - 1 ≤ 30; omega, fun j hj => ?_⟩
        have hj : j < tr_n (zt z q) - 1 := hj
        refine ⟨?_, hok j hj⟩
        obtain ⟨j', hj', hji, rfl⟩ := dt_sh_inv (i := i) hj
        exact hm j' (by omega) hji
      refine pl_le (fun _ => km_hasTwice 9 hm9 (by rw [tr_tk_d]; exact dt_ok ho.1 hi0 hi) (fun htw => ⟨fun a => absurd a (by decide), fun _ => ks_fnd (f := 4) h3 (hk2.1 htw)⟩) (fun htw => ⟨fun _ => km_copyAll 9 q (tr_n (zt z q) - 1) hm9.2.1 (by omega) (fun X4 hc4 => hk2.2 htw X4 (h3.put hm9 hc4 (by decide) hq)), fun a => absurd rfl a⟩)) (fun c => by omega)
    | succ s ih =>
      intro k X' hk3 he hsz hm
      have hszq : X'.2 1 q = nI (tr_n (zt z q)) := by rw [he.2.2.1 q (by omega)]; exact hp.2.1
      have hpk := hp.2.2.2 k (by omega)
      refine bm_take_77 hK ⟨vp_in_nI (by omega) (by decide), ?_⟩
      rw [nI_clamp (by omega), hszq, e9', hsz]
      refine pl_le (fun c => by omega) (fun _ => pl_eq (fun ek => ?_) (fun ek => ⟨vp_in_nI (n := 9) (N := 11) (by decide) (by decide), ?_⟩))
      · subst ek
        refine bm_take_162 hK ?_
        rw [nI_1]
        refine ih (k + 1) X' (by omega) he ?_ (fun j hj hji => hm j (by omega) hji)
        rw [hsz, if_pos (Nat.le_refl _), if_neg (by omega)]
        rfl
      · have hto : (if k ≤ i then k else k - 1) = dt_sh i k := by
          unfold dt_sh
          by_cases c : k < i
          · rw [if_pos (by omega), if_pos c]
          · rw [if_neg (by omega), if_neg c]
        have ht30 : dt_sh i k < 30 := by unfold dt_sh; split <;> omega
        rw [hto] at hsz ⊢
        have shne : ∀ j, j ≠ k → j ≠ i → dt_sh i j ≠ dt_sh i k := fun j hj hji => by unfold dt_sh; split <;> split <;> omega
        have cont : ∀ X3, e9s X X3 → X3.2 1 9 = nI (dt_sh i k) → ma_mr X3 9 (dt_sh i k) (tr_r (tr_tk (zt z q) i) (dt_sh i k)) → (∀ j w, j < 30 → w < 19 → j ≠ dt_sh i k → ma_nd X3 9 j w = ma_nd X' 9 j w) → gm_G θ K mX7_take (gm_Pi P) 151 [(0, .ref (gm_am θ)), (1, .int (nI q)), (4, .int (nI i)), (5, .int (nI (dl_cl (tr_d (zt z q)) (tr_n (zt z q)) i).length)), (6, .int (nI (dl_en (tr_d (zt z q)) (tr_n (zt z q)) i))), (7, .int (nI k))] [] X3 := fun X3 he3 hz3 hr3 hs3 => by
          refine bm_take_151 hK ⟨vp_in_nI (n := 9) (N := 11) (by decide) (by decide), vp_in_nI (n := 9) (N := 11) (by decide) (by decide), ?_⟩
          rw [e9', hz3, nI_1]
          rintro _ rfl
          refine bm_take_162 hK ?_
          rw [nI_1]
          have e0 : ∀ j r, ma_mr X3 9 j r → ma_mr (gm_pA X3 1 9 (nI (dt_sh i k + 1))) 9 j r := fun j r hr => by
            unfold ma_mr ma_ml ma_nd
            rw [ma_pA_ne (by decide)]; exact hr
          refine ih (k + 1) _ (by omega) he3.sz ?_ (fun j hj hji => e0 _ _ ?_)
          · rw [ma_pA_at, if_pos rfl]
            congr 1
            unfold dt_sh
            by_cases c : k < i
            · rw [if_pos c, if_pos (by omega)]
            · rw [if_neg c, if_neg (by omega)]; omega
          · by_cases cj : j = k
            · rw [cj]; exact hr3
            · exact (hm j (by omega) hji).of (hok _ (by unfold dt_sh; split <;> omega)) (fun u hu => hs3 _ u (by unfold dt_sh; split <;> omega) hu (shne j cj hji))
        refine km_carry q k 9 (dt_sh i k) (fun X3 hc3 => ?_)
        have he3 := he.car hc3
        have hz3 : X3.2 1 9 = nI (dt_sh i k) := by rw [hc3.2.1 1 (by decide)]; exact hsz
        have hr3 : ma_mr X3 9 (dt_sh i k) (tr_r (zt z q) k) := hpk.1.of hpk.2 (fun u hu => by rw [hc3.2.2.1 u hu]; exact he.2.2.2 q k u (by omega) (by omega) hu)
        have hs3 : ∀ j w, j < 30 → w < 19 → j ≠ dt_sh i k → ma_nd X3 9 j w = ma_nd X' 9 j w := fun j w hj hw hne => hc3.2.2.2 9 j w (fun y => hne y.2) hj hw
        refine pl_le (fun c => cont X3 he3 hz3 ?_ hs3) (fun c => pl_le (fun c2 => cont X3 he3 hz3 ?_ hs3) (fun c2 => ⟨vp_in_nI (n := 9) (N := 11) (by decide) (by decide), km_deep q k ?_⟩))
        · have esh : dt_sh i k = k := if_pos (by omega)
          rw [esh] at hr3 ⊢
          rw [tr_tk_lt (by omega)]; exact hr3
        · have esh : dt_sh i k = k - 1 := if_neg (by omega)
          rw [esh] at hr3 ⊢
          rw [tr_tk_ge c c2]; exact hr3
        · have esh : dt_sh i k = k - 1 := if_neg (by omega)
          have hd : ma_nd X3 q k 2 = nI (tr_d (zt z q) k) := by rw [he3.2.2.2 q k 2 (by omega) (by omega) (by decide)]; exact hpk.1.2.2.1
          have hd0 := e3 k c c2
          rw [hd, hz3, show (1 : Int32) = nI 1 from rfl, pk_sub (by omega)]
          refine km_set 9 (dt_sh i k) 2 ?_
          refine cont _ (he3.set ht30 (by decide)) (by rw [ma_pA_ne (by decide)]; exact hz3) ?_ (fun j w hj hw hne => ?_)
          · have := ma_mr.dn hr3 hpk.2 ht30 (v := nI (tr_d (zt z q) k - 1)) rfl
            rw [esh] at this ⊢
            rw [tr_tk_in c c2]; exact this
          · rw [ma_nd_set ht30 (by decide) hj hw, if_neg (fun y => hne y.2.1)]; exact hs3 j w hj hw hne
  refine loop (tr_n (zt z q)) 0 _ (Nat.zero_add _) ((e9s.refl X).sz) ?_ (fun j hj => absurd hj (Nat.not_lt_zero _))
  rw [ma_pA_at, if_pos rfl, if_pos (Nat.zero_le _)]
  rfl
end MT
