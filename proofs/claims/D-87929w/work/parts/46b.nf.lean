/-! feed() -/
def by_ (w : Int64) (k : Nat) : Int64 := w >>> ((8 * nI k).toInt64 &&& 63)
def bt_ (w : Int64) (k : Nat) : Nat := (by_ w k).toBitVec.toNat % 256
theorem bt_lt (w : Int64) (k : Nat) : bt_ w k < 256 := Nat.mod_lt _ (by decide)
theorem bt_c (y : Int64) : vp_nar .byte (y.toInt32.toInt8.toInt32) = sb_b (y.toBitVec.toNat % 256) := by
  rw [pk_vb]
  unfold sb_b
  congr 1
  apply Int8.toBitVec.inj
  apply BitVec.eq_of_toNat_eq
  simp [nI]
  rw [BitVec.signExtend_eq_setWidth_of_le _ (by decide), BitVec.toNat_setWidth]
theorem bt_m (y : Int64) : (y &&& 255).toInt32 = nI (y.toBitVec.toNat % 256) := by
  apply Int32.toBitVec.inj
  apply BitVec.eq_of_toNat_eq
  simp [nI]
  rw [BitVec.signExtend_eq_setWidth_of_le _ (by decide), BitVec.toNat_setWidth]
  have := Nat.and_two_pow_sub_one_eq_mod (y.toBitVec.toNat % 2 ^ 32) 8
  rw [show (2 ^ 8 - 1 : Nat) = 255 from rfl] at this
  rw [this]
  omega
/-- so many bytes of a word -/
def bts (w : Int64) : Nat → List Nat
  | 0 => []
  | m + 1 => bts w m ++ [bt_ w m]
theorem bts_len (w : Int64) : ∀ m, (bts w m).length = m := by
  intro m
  induction m with
  | zero => rfl
  | succ m ih => show (bts w m ++ [bt_ w m]).length = m + 1; rw [List.length_append, ih]; rfl
def sp_feed (w : Int64) (n : Int32) (z : zz) (Q : zP) : Prop := (∀ m : Nat, 1 ≤ m → m ≤ 8 → n = nI m → (400 < (zp z).length + m → sp_f z Q 5) ∧ ((zp z).length + m ≤ 400 → Q (nI ((zp z).length + m)) (z_p z (zp z ++ bts w m)))) ∧ ((n < 1 ∨ 8 < n) → sp_f z Q 1)
section MN
variable {θ : gm_T} {P : Int32 → gm_X → Prop} {X : gm_X} {z : zz} {c : Nat}
theorem MS.tape {X' : gm_X} {a : List Nat} (h : MS X z) (k1 : ∀ f, f ≠ 4 → X'.1 f = X.1 f) (k2 : ∀ b, b ≠ 3 → X'.2 b = X.2 b) (ht : ma_tape X' a) : MS X' (z_p z a) := by
  obtain ⟨h1, h2, h3, h4, h5, h6, h7, h8, h9, h10, h11⟩ := h
  refine ⟨fun p hp => ?_, ?_, ht, ?_, ?_, ?_, ?_, ?_, ?_, ?_, ?_⟩
  · have := h1 p hp
    unfold ma_mp ma_mr ma_ml ma_nd
    rw [k2 0 (by decide), k2 1 (by decide)]; exact this
  · unfold mN; rw [k1 2 (by decide)]; exact h2
  · unfold mW; rw [k1 6 (by decide), k2 5 (by decide)]; exact h4
  · unfold mC; rw [k2 7 (by decide)]; exact h5
  · unfold mF; rw [k2 8 (by decide)]; exact h6
  · unfold mQ; rw [k1 20 (by decide), k2 23 (by decide), k2 24 (by decide)]; exact h7
  · unfold mA; rw [k1 21 (by decide), k2 25 (by decide), k2 26 (by decide), k2 27 (by decide)]; exact h8
  · unfold mM; rw [k1 22 (by decide)]; exact h9
  · unfold mX; rw [k1 31 (by decide), k2 29 (by decide), k2 30 (by decide)]; exact h10
  · unfold mG; rw [k1 32 (by decide)]; exact h11
theorem ls_snoc_get {a : List Nat} {v j : Nat} (h : j < a.length + 1) : (a ++ [v]).getD j 0 = if j < a.length then a.getD j 0 else v := by
  by_cases c : j < a.length
  · rw [if_pos c, ls_app_lt c]
  · rw [if_neg c, ls_app_ge (by omega), show j - a.length = 0 by omega]
    rfl
theorem ks_feed {w : Int64} {x : Int32} (hz : zok c z) (h : MS X z) (hs : sp_feed w x z (mz P)) : gx_C (gm_O θ) mX7_feed [.ref (gm_am θ), .long w, .int x] X (gm_Pi P) := by
  have ht := h.2.2.1
  have hl := hz.2.2.1
  refine em_feed (fun K hK => bm_feed_0 hK (km_in (fun a b => ⟨fun q => absurd q (by decide), fun _ => ?_⟩) (fun a => ⟨fun _ => ks_fnd (f := 1) h (hs.2 a), fun q => absurd rfl q⟩)))
  obtain ⟨m, m1, rfl⟩ := nI_of2 (M := 8) (n := 8) (by decide) (fun z => absurd (Int32.lt_of_le_of_lt a z) (by decide)) b
  have m0 : 1 ≤ m := by
    have a : nI 1 ≤ nI m := a
    rw [nI_leI (by decide) (by omega)] at a
    exact a
  have hk := hs.1 m m0 m1 rfl
  rw [ht.1, nI_add]
  refine pl_le (a := (zp z).length + m) (b := 400) (fun c => ?_) (fun c => ks_fnd (f := 5) h (hk.1 (by omega)))
  have hk := hk.2 c
  have key : ∀ f j X', j + f = m → (∀ b, b ≠ 3 → X'.2 b = X.2 b) → X'.1 = X.1 → (∀ i, i < (zp z).length + j → X'.2 3 i = nI ((zp z ++ bts w j).getD i 0) ∧ (zp z ++ bts w j).getD i 0 < 256) → gm_G θ K mX7_feed (gm_Pi P) 38 [(0, .ref (gm_am θ)), (1, .long w), (3, .int (nI m)), (4, .int (nI j))] [] X' := by
    intro f
    induction f with
    | zero =>
      intro j X' hj k2 k1 hb
      refine bm_feed_38 hK (pl_le (fun _ => ?_) (fun c => by omega))
      rintro _ rfl
      rw [k1, ht.1, nI_add]
      have e4 : (gm_pI X' 4 (nI ((zp z).length + m))).1 4 = nI ((zp z).length + m) := by rw [ma_pI_at, if_pos rfl]
      rw [e4]
      have : j = m := by omega
      subst this
      refine hk _ (h.tape (fun f hf => ?_) k2 ⟨?_, ?_, fun i hi => ?_⟩)
      · rw [ma_pI_at, if_neg hf, k1]
      · rw [e4, List.length_append, bts_len]
      · rw [List.length_append, bts_len]; omega
      · rw [List.length_append, bts_len] at hi
        exact hb i hi
    | succ f ih =>
      intro j X' hj k2 k1 hb
      refine bm_feed_38 hK (pl_le (fun c => by omega) (fun _ => ?_))
      rw [k1, ht.1, nI_add, nI_clamp (by omega)]
      refine ⟨vp_in_nI (by omega) (by decide), ?_⟩
      rintro _ rfl
      rw [nI_1]
      have ev : ((w >>> ((8 * nI j).toInt64 &&& 63)) &&& 255).toInt32 = nI (bt_ w j) := bt_m _
      rw [ev]
      refine ih (j + 1) _ (by omega) (fun b hb2 => by rw [ma_pA_ne hb2]; exact k2 b hb2) k1 (fun i hi => ?_)
      have e5 : zp z ++ bts w (j + 1) = (zp z ++ bts w j) ++ [bt_ w j] := by
        show zp z ++ (bts w j ++ [bt_ w j]) = _
        rw [List.append_assoc]
      have e6 : (zp z ++ bts w j).length = (zp z).length + j := by rw [List.length_append, bts_len]
      rw [ma_pA_at, e5, ls_snoc_get (by rw [e6]; omega), e6]
      by_cases c2 : i = (zp z).length + j
      · rw [if_pos c2, if_neg (by omega)]; exact ⟨rfl, bt_lt w j⟩
      · rw [if_neg c2, if_pos (by omega)]; exact hb i (by omega)
  refine key m 0 X (by omega) (fun _ _ => rfl) rfl (fun i hi => ?_)
  show X.2 3 i = nI ((zp z ++ []).getD i 0) ∧ (zp z ++ []).getD i 0 < 256
  rw [List.append_nil]
  exact ht.2.2 i hi
end MN
section CN
variable {θ : gc_T} {g : Nat → Nat} {σ : gc_S} {z z' : zz} {ow TR : Nat → Nat} {A : Nat → Nat → Nat} {P : Int32 → gc_S → Prop} {c n cc ss : Nat}
/-- the tape's cells -/
theorem CSo.tape (hθ : cTh θ) (h : CSo θ g σ z ow TR A) {σ' : gc_S} {a : List Nat} (k : cx θ (fun q => q = g 0 ∨ q = g 4) σ σ') (hd : gc_d σ' = gc_d σ) (hR : gc_R σ' = gc_R σ) (hQ : gc_Q σ' = gc_Q σ) (hI : ∀ f, f ≠ 5 → gc_I σ' f (g 0) = gc_I σ f (g 0)) (hT : gc_I σ' 5 (g 0) = nI a.length ∧ ∀ j, j < a.length → gc_E σ' (g 4) j = sb_b (a.getD j 0)) : CSo θ g σ' (z_p z a) ow TR A := by
  obtain ⟨⟨n1, n2⟩, ⟨g1, g2, g3, g4, g5⟩, ⟨f1, f2, f3, f4, f5, f6, f7, f8, f9⟩, ⟨o1, o2⟩, ⟨t1, t2⟩, ⟨⟨c1, l1⟩, c2, l2⟩⟩ := id h
  have r0 : role 0 := Or.inl (by decide)
  have r4 : role 4 := Or.inl (by decide)
  have nn : ∀ j, role j → j ≠ 0 → j ≠ 4 → cs_ σ σ' (g j) := fun j hj e e' => k.2.2.2 (g j) (Or.inl (g1 j hj).1.1) (fun z => z.elim (fun z => e (g5 j 0 hj r0 z)) (fun z => e' (g5 j 4 hj r4 z)))
  have E : ∀ j, j < 26 → j ≠ 0 → j ≠ 4 → gc_E σ' (g j) = gc_E σ (g j) := fun j h1 h2 h3 => (nn j (Or.inl h1) h2 h3).2.2.1
  refine ⟨⟨?_, ?_⟩, ⟨fun j hj => ⟨k.is (g1 j hj).1, fun hk => ?_⟩, fun x hx => by rw [hR]; exact g2 x hx, fun j hj => by rw [hQ]; exact g3 j hj, fun j hj => by rw [hQ]; exact g4 j hj, g5⟩, ⟨⟨?_, hT.1, hT.2⟩, ?_, ?_, ?_, ?_, ?_, ?_, ?_, ?_⟩, ⟨o1.same hd, o2⟩, ⟨fun p hp => ?_, t2⟩, ⟨c1, ?_⟩, c2, ?_⟩
  · rw [(k.2.2.1 _ (Or.inr hθ.1)).2]; exact n1
  · rw [(k.2.2.1 _ (Or.inr hθ.2)).2]; exact n2
  · rw [(k.2.2.1 _ (Or.inl (g1 j hj).1.1)).2]; exact (g1 j hj).2 hk
  · rw [hI 3 (by decide)]; exact f1.1
  · unfold fW; rw [(nn 6 (Or.inl (by decide)) (by decide) (by decide)).2.2.2.2.1 301 (by decide), E 7 (by decide) (by decide) (by decide)]; exact f2
  · unfold fC; rw [E 9 (by decide) (by decide) (by decide)]; exact f3
  · unfold fF; rw [E 2 (by decide) (by decide) (by decide)]; exact f4
  · unfold fQ; rw [hI 13 (by decide), E 21 (by decide) (by decide) (by decide), E 22 (by decide) (by decide) (by decide)]; exact f5
  · unfold fD; rw [hI 17 (by decide), E 23 (by decide) (by decide) (by decide), E 24 (by decide) (by decide) (by decide), E 25 (by decide) (by decide) (by decide)]; exact f6
  · unfold fM; rw [hI 12 (by decide), hI 14 (by decide)]; exact f7
  · unfold fX; rw [(nn 16 (Or.inl (by decide)) (by decide) (by decide)).2.2.2.2.1 603 (by decide), E 18 (by decide) (by decide) (by decide), E 19 (by decide) (by decide) (by decide)]; exact f8
  · unfold fG; rw [hI 11 (by decide)]; exact f9
  · rw [hQ]
    refine ⟨(t1 p hp).1, fun z0 => ⟨((t1 p hp).2 z0).1, ((t1 p hp).2 z0).2.cx hθ k (fun q e => ?_) (fun _ _ => rfl) (fun _ z => z)⟩⟩
    rcases e with e | e
    · rw [e]; exact h.tn ((t1 p hp).2 z0).2 r0
    · rw [e]; exact h.tn ((t1 p hp).2 z0).2 r4
  · refine l1.cx hθ k (fun q e _ => ?_) (fun _ _ e => e)
    rcases e with e | e
    · rw [e, o2 0 r0]; exact h.ne (by decide) r0 (Or.inl (by decide))
    · rw [e, o2 4 r4]; exact h.ne (by decide) r4 (Or.inl (by decide))
  · refine l2.cx hθ k (fun q e _ => ?_) (fun _ _ e => e)
    rcases e with e | e
    · rw [e, o2 0 r0]; exact h.ne (by decide) r0 (Or.inl (by decide))
    · rw [e, o2 4 r4]; exact h.ne (by decide) r4 (Or.inl (by decide))
theorem kn_feed {w : Int64} {x : Int32} (hθ : cTh θ) (hz : zok c z) (h : CSo θ g σ z ow TR A) (hs : sp_feed w x z (cz θ g P)) (hn : 300 ≤ n := by omega) : gx_C (gc_O θ) (nX0_feed n) [.ref (g 0), .long w, .int x] σ (gc_Pi P) := by
  obtain ⟨n, rfl⟩ : ∃ k, n = k + 1 := ⟨n - 1, by omega⟩
  have hl := hz.2.2.1
  have ht := h.2.2.1.1
  have n4 : gc_n σ (g 4) = 400 := h.n 4
  have h04 : g 0 ≠ g 4 := h.ne (by decide)
  refine ec_X0_feed (fun K hK => bc_X0_feed_0 hK ?_)
  have bad : sp_f z (cz θ g P) 1 → gc_G θ K (nX0_feed (n + 1)) (gc_Pi P) 16 [(0, va_rf (some (g 0))), (1, .long w), (3, .int x)] [va_rf (some (g 0))] σ 0 0 := fun a =>
    bc_X0_feed_16 hK (bc_X0_feed_17 hK ⟨g 0, rfl, h.is 0, kn_need h (fun b => absurd rfl b) (fun _ => ⟨h.is 1, bc_X0_feed_95 hK ⟨h.is 0, kn_fnd hθ h a⟩⟩)⟩)
  refine ⟨fun a => bad (hs.2 (Or.inl a)), fun a => ⟨fun b => bad (hs.2 (Or.inr b)), fun b => ?_⟩⟩
  have a := Int32.not_lt.mp a
  obtain ⟨m, m1, rfl⟩ := nI_of2 (M := 8) (n := 8) (by decide) (fun z => absurd (Int32.lt_of_le_of_lt a z) (by decide)) (Int32.not_lt.mp b)
  have m0 : 1 ≤ m := by
    have a : nI 1 ≤ nI m := a
    rw [nI_leI (by decide) (by omega)] at a
    exact a
  have hk := hs.1 m m0 m1 rfl
  refine bc_X0_feed_17 hK ⟨g 0, rfl, h.is 0, kn_need h (fun _ => ⟨h.is 0, ?_⟩) (fun a => absurd a (by decide))⟩
  rw [ht.2.1, nI_add]
  refine pl_lt (a := 400) (b := (zp z).length + m) (fun c => bc_X0_feed_39 hK ⟨g 0, rfl, h.is 0, kn_need h (fun b => absurd rfl b) (fun _ => ⟨h.is 1, bc_X0_feed_95 hK ⟨h.is 0, kn_fnd hθ h (hk.1 c)⟩⟩)⟩) (fun c => bc_X0_feed_39 hK ⟨g 0, rfl, h.is 0, kn_need h (fun _ => ?_) (fun a => absurd a (by decide))⟩)
  have hk := hk.2 c
  have key : ∀ f j σ', j + f = m → cx θ (fun q => q = g 0 ∨ q = g 4) σ σ' → gc_d σ' = gc_d σ → gc_R σ' = gc_R σ → gc_Q σ' = gc_Q σ → gc_I σ' = gc_I σ → (∀ i, i < (zp z).length + j → gc_E σ' (g 4) i = sb_b ((zp z ++ bts w j).getD i 0)) → gc_G θ K (nX0_feed (n + 1)) (gc_Pi P) 47 [(0, va_rf (some (g 0))), (1, .long w), (3, .int (nI m)), (4, .int (nI j))] [] σ' 0 0 := by
    intro f
    induction f with
    | zero =>
      intro j σ' hj k1 k2 k3 k4 k5 k6
      have i0 := k1.is (h.is 0)
      refine bc_X0_feed_47 hK (pl_le (fun _ => ⟨i0, i0, ?_⟩) (fun c => by omega))
      rintro _ rfl
      refine ⟨i0, ?_⟩
      rw [k5, ht.2.1, nI_add, rd_I_sI, if_pos ⟨rfl, rfl⟩]
      have : j = m := by omega
      subst this
      refine hk _ ⟨_, _, _, h.tape hθ (k1.trans (cx_sI σ' 5 (g 0) _) (fun q e => Or.inl (Or.inl e))) k2 k3 k4 (fun f hf => ?_) ⟨?_, fun i hi => ?_⟩⟩
      · rw [rd_I_sI, if_neg (fun z => hf z.1), k5]
      · rw [rd_I_sI, if_pos ⟨rfl, rfl⟩, List.length_append, bts_len]
      · rw [List.length_append, bts_len] at hi
        exact k6 i hi
    | succ f ih =>
      intro j σ' hj k1 k2 k3 k4 k5 k6
      have i0 := k1.is (h.is 0)
      have i4 := k1.is (h.is 4)
      have n4' : gc_n σ' (g 4) = 400 := by rw [(k1.2.2.1 _ (Or.inl (h.is 4).1)).2]; exact n4
      refine bc_X0_feed_47 hK (pl_le (fun c => by omega) (fun _ => ⟨i0, i0, g 4, by rw [k3]; exact h.ln 4 0 4, i4, ?_⟩))
      rw [k5, ht.2.1, nI_add, nI_clamp (by omega), n4']
      refine ⟨vp_in_nI (by omega) (by decide), ?_⟩
      rintro _ rfl
      rw [nI_1]
      have ev : vp_nar .byte ((w >>> ((8 * nI j).toInt64 &&& 63)).toInt32.toInt8.toInt32) = sb_b (bt_ w j) := bt_c _
      rw [ev]
      refine ih (j + 1) _ (by omega) (k1.trans (cx_sE σ' (g 4) _ _) (fun q e => Or.inl (Or.inr e))) k2 k3 k4 k5 (fun i hi => ?_)
      have e5 : zp z ++ bts w (j + 1) = (zp z ++ bts w j) ++ [bt_ w j] := by
        show zp z ++ (bts w j ++ [bt_ w j]) = _
        rw [List.append_assoc]
      have e6 : (zp z ++ bts w j).length = (zp z).length + j := by rw [List.length_append, bts_len]
      rw [rd_E_sE, e5, ls_snoc_get (by rw [e6]; omega), e6]
      by_cases c2 : i = (zp z).length + j
      · rw [if_pos ⟨rfl, c2⟩, if_neg (by omega)]
      · rw [if_neg (fun y => c2 y.2), if_pos (by omega)]; exact k6 i (by omega)
  have hb0 : ∀ i, i < (zp z).length + 0 → gc_E σ (g 4) i = sb_b ((zp z ++ bts w 0).getD i 0) := fun i hi => by
    have e : zp z ++ bts w 0 = zp z := List.append_nil _
    rw [e]
    rw [Nat.add_zero] at hi
    exact ht.2.2 i hi
  have k0 := key m 0 σ (Nat.zero_add m) (cx.refl σ) rfl rfl rfl rfl hb0
  exact k0
end CN
