/-! trees: numbered, made, copied; nodes by name -/
theorem nb_fr.cx {θ : gc_T} {tr ah bh : Nat} {A : Nat → Nat} {lo hi : Nat} {σ σ' : gc_S} (h : nb_fr tr ah bh A lo hi σ σ') : cx θ (fun q => q = tr ∨ q = ah ∨ q = bh ∨ ∃ k, lo ≤ k ∧ k < hi ∧ q = A k) σ σ' := by
  obtain ⟨a1, a2, a3, a4, a5, a6, a7⟩ := h
  refine ⟨fun a ha => by rw [a1]; exact ha, fun a ha => by rw [a1] at ha; exact Or.inl ha, fun a _ => ⟨by rw [a2], by rw [a3]⟩, fun a _ hS => ⟨by rw [a2], by rw [a3], by rw [a5], a6 a (fun z => hS (Or.inr (Or.inl z))) (fun z => hS (Or.inr (Or.inr (Or.inl z)))), fun f _ => a7 f a (fun z => hS (Or.inl z.1)) (fun z => hS (Or.inr (Or.inr (Or.inr z.1)))), fun f => by rw [a4]⟩⟩
/-- not too many nodes, none too deep -/
def tr_sm (t : tr_) : Prop := tr_n t ≤ 30 ∧ ∀ k, k < tr_n t → tr_d t k < 12
def cK (σ : gc_S) (tr ah bh : Nat) (t : tr_) (A : Nat → Nat) : Prop := cR σ tr ah bh ∧ gc_R σ 700 tr = some (A 0) ∧ gc_I σ 703 tr = nI (tr_n t) ∧ ∀ k, k < tr_n t → nb_at σ ah bh t A k
/-- a whole tree -/
def cW (θ : gc_T) (σ : gc_S) (ow : Nat → Nat) (L : Nat → Prop) (tr : Nat) (t : tr_) (A : Nat → Nat) : Prop := cT θ σ ow L t A ∧ (∃ ah bh, cK σ tr ah bh t A ∧ ow ah = tr ∧ ow bh = tr) ∧ ow tr = tr ∧ gc_R σ 803 (A 0) = none
theorem cW.cx {θ : gc_T} {S : Nat → Prop} {σ σ' : gc_S} {ow ow' : Nat → Nat} {L L' : Nat → Prop} {tr : Nat} {t : tr_} {A : Nat → Nat} (h : cW θ σ ow L tr t A) (hθ : cTh θ) (k : cx θ S σ σ') (hS : ∀ q, S q → ow q ≠ tr ∧ (∀ i, i < tr_n t → ow q ≠ A i) ∧ (gc_k σ q = 15 → ¬ L q)) (hw : ∀ q, q ∈ gc_d σ → ow' q = ow q) (hL : ∀ q, L q → L' q) : cW θ σ' ow' L' tr t A := by
  obtain ⟨h1, ⟨ah, bh, ⟨⟨r1, r2, r3, r4, r5, r6, r7, r8⟩, g2, g3, g4⟩, g5, g6⟩, h3, h4⟩ := h
  have s0 := k.2.2.2 tr (Or.inl r1.1) (fun z => (hS _ z).1 h3)
  have s1 := k.2.2.2 ah (Or.inl r4.1) (fun z => (hS _ z).1 g5)
  have s2 := k.2.2.2 bh (Or.inl r5.1) (fun z => (hS _ z).1 g6)
  have sA : ∀ i, i < tr_n t → cs_ σ σ' (A i) := fun i hi => k.2.2.2 (A i) (Or.inl (h1.2.1 i hi).2.1) (fun z => (hS _ z).2.1 i hi (h1.2.1 i hi).1)
  refine ⟨h1.cx hθ k (fun q z => (hS q z).2) hw hL, ⟨ah, bh, ⟨⟨k.is r1, by rw [s0.2.2.2.2.2]; exact r2, by rw [s0.2.2.2.2.2]; exact r3, k.is r4, k.is r5, by rw [s1.2.1]; exact r6, by rw [s2.2.1]; exact r7, r8⟩, by rw [s0.2.2.2.2.2]; exact g2, by rw [s0.2.2.2.2.1 _ (by decide)]; exact g3, fun i hi => ?_⟩, by rw [hw _ r4.1]; exact g5, by rw [hw _ r5.1]; exact g6⟩, by rw [hw _ r1.1]; exact h3, by rw [(sA 0 h1.1.1).2.2.2.2.2]; exact h4⟩
  obtain ⟨n1, n2, n3, n4, n5, n6⟩ := g4 i hi
  have sI := (sA i hi).2.2.2.2.1
  exact ⟨by rw [s1.2.2.2.1]; exact n1, by rw [sI _ (by decide)]; exact n2, by rw [sI _ (by decide)]; exact n3, by rw [sI _ (by decide)]; exact n4, by rw [sI _ (by decide)]; exact n5, by rw [s2.2.2.2.1]; exact n6⟩
theorem cW.congr {θ : gc_T} {σ : gc_S} {ow : Nat → Nat} {L : Nat → Prop} {tr : Nat} {t : tr_} {A A' : Nat → Nat} (h : cW θ σ ow L tr t A) (hA : ∀ i, i < tr_n t → A' i = A i) : cW θ σ ow L tr t A' := by
  obtain ⟨h1, ⟨ah, bh, ⟨g1, g2, g3, g4⟩, g5, g6⟩, h3, h4⟩ := h
  refine ⟨h1.congr rfl (fun _ _ => rfl) hA, ⟨ah, bh, ⟨g1, by rw [hA 0 h1.1.1]; exact g2, g3, fun i hi => ?_⟩, g5, g6⟩, h3, by rw [hA 0 h1.1.1]; exact h4⟩
  unfold nb_at
  rw [hA i hi]
  exact g4 i hi
section CK
variable {θ : gc_T} {t : tr_} {A : Nat → Nat} {L : Nat → Prop} {ow : Nat → Nat} {tr ah bh : Nat} {σ : gc_S} {P : Int32 → gc_S → Prop} {V : gc_S → Prop} {R : Option Nat → gc_S → Prop} {n cc ss : Nat}
theorem kc_number (ht : cT θ σ ow L t A) (hR : cR σ tr ah bh) (hr : gc_R σ 700 tr = some (A 0)) (h40 : tr_n t ≤ 40) (k1 : tr_sm t → ∀ σ', nb_fr tr ah bh A 0 (tr_n t) σ σ' → cK σ' tr ah bh t A → P 1 σ') (k0 : ¬ tr_sm t → ∀ σ', nb_fr tr ah bh A 0 (tr_n t) σ σ' → P 0 σ') (hn : 6 + tr_n t ≤ n := by omega) : gx_C (gc_O θ) (nX8_number n) [.ref tr] σ (gc_Pi P) := by
  obtain ⟨n, rfl⟩ : ∃ k, n = k + 1 := ⟨n - 1, by omega⟩
  have n0 := ht.1.1
  have hN0 := ht.2.1 0 n0
  have en0 := dl_en0 ht.1
  refine ec_X8_number (fun K h => bc_X8_number_0 h ⟨hR.1, ?_⟩)
  rintro _ rfl
  refine ⟨hR.1, ?_⟩
  rintro _ rfl
  refine ⟨hR.1, A 0, hr, hN0.isN, ?_⟩
  rintro _ rfl
  refine ⟨hR.1, hR.1, ?_⟩
  have f1 := ((nb_T (tr := tr) (ah := ah) (bh := bh) (A := A) (lo := 0) (hi := tr_n t) (f := 703) σ 0 (Or.inl rfl)).trans (nb_T (f := 704) (gc_sI σ 703 tr 0) 0 (Or.inr rfl)) (Nat.le_refl _) (Nat.le_refl _)).trans (nb_I (k := 0) (f := 808) (gc_sI (gc_sI σ 703 tr 0) 704 tr 0) 0 (Nat.le_refl _) n0 (by decide)) (Nat.le_refl _) (Nat.le_refl _)
  have e0 : gc_R (gc_sI (gc_sI (gc_sI σ 703 tr 0) 704 tr 0) 808 (A 0) 0) 700 tr = some (A 0) := hr
  rw [e0]
  have hk1 : gc_k σ ah ≠ 20 := by rw [hR.2.2.2.1.2]; decide
  have hk2 : gc_k σ bh ≠ 20 := by rw [hR.2.2.2.2.1.2]; decide
  refine kc_number2 h40 (tr_n t) 0 _ n _ n0 (by rw [en0]; omega) (f1.cT ht hk1 hk2) (f1.toR hR) ?_ ?_ ?_ (by omega) (fun σ' r1 r2 r3 r4 r5 r6 r7 => ⟨rfl, ?_⟩) (fun σ' r1 r2 => ⟨rfl, ?_⟩) (by rw [en0]; omega)
  · rw [rd_I_sI, if_neg (by simp), rd_I_sI, if_neg (by simp), rd_I_sI, if_pos ⟨rfl, rfl⟩]; rfl
  · rw [rd_I_sI, if_neg (by simp), rd_I_sI, if_pos ⟨rfl, rfl⟩, Nat.zero_sub]; rfl
  · rw [rd_I_sI, if_pos ⟨rfl, rfl⟩, ht.1.2.1]; rfl
  · rw [en0] at r1 r2 r3 r5
    have f2 := f1.trans r1 (Nat.le_refl _) (Nat.le_refl _)
    refine k1 ⟨?_, fun k hk => (r2 k (Nat.zero_le _) hk).2⟩ σ' f2 ⟨f2.toR hR, by rw [f2.2.2.2.1]; exact hr, r3, fun k hk => r5 k (Nat.zero_le _) hk⟩
    have := r2 (tr_n t - 1) (Nat.zero_le _) (by omega)
    omega
  · rw [en0] at r1 r2
    refine k0 (fun z => ?_) σ' (f1.trans r1 (Nat.le_refl _) (Nat.le_refl _))
    obtain ⟨k, q1, q2, q3⟩ := r2
    rcases q3 with q3 | q3
    · have := z.1; omega
    · have := z.2 k q2; omega
/-- a tree is made of a root -/
theorem kc_tinit (hθ : cTh θ) (hoc : oc σ ow) (ht : cT θ σ ow L t A) (hi : gc_is σ tr 7) (ho : ow tr = tr) (hsm : tr_sm t) (hp : gc_R σ 803 (A 0) = none)
    (k : ∀ σ' ow', cx θ (fun q => q = tr ∨ ∃ k, k < tr_n t ∧ q = A k) σ σ' → (∀ x, x ∈ gc_d σ → ow' x = ow x) → oc σ' ow' → cW θ σ' ow' L tr t A → V σ') (hn : 7 + tr_n t ≤ n := by omega) (hc : 2 ≤ cc := by omega) (hs : 62 ≤ ss := by omega) : gx_C (gc_O θ) (nX8_init n cc ss) [.ref tr, .ref (A 0)] σ (gc_Pv V) := by
  obtain ⟨n, rfl⟩ : ∃ k, n = k + 1 := ⟨n - 1, by omega⟩
  have e31 : (31 : Int32).toNatClampNeg = 31 := by decide
  refine ec_X8_init (x1 := some (A 0)) (fun K h => bc_X8_init_0 h ?_)
  rw [e31]
  refine ⟨by decide, by decide, by omega, by omega, ?_⟩
  rintro ah hah hA1 _ rfl
  have htr : tr ≠ ah := fun z => hah (z ▸ hi.1)
  have x1 := cx_new (θ := θ) (S := fun q => q = tr ∨ ∃ k, k < tr_n t ∧ q = A k) σ 18 31 hah hA1
  refine ⟨x1.is hi, ?_⟩
  rintro _ rfl
  have x2 := x1.trans (cx_sR (gc_new σ ah 18 31) 701 tr (some ah)) (fun b hb => Or.inl (Or.inl hb))
  refine ⟨by decide, by decide, by omega, by omega, ?_⟩
  rintro bh hbh hA2 _ rfl
  have hbh0 : bh ∉ gc_d σ := fun z => hbh (x2.1 _ z)
  have hab : ah ≠ bh := fun z => hbh (z ▸ List.mem_append_right _ (List.mem_singleton_self ah))
  have htb : tr ≠ bh := fun z => hbh0 (z ▸ hi.1)
  have x3 := x2.trans (cx_new (θ := θ) (S := fun _ => False) (gc_sR (gc_new σ ah 18 31) 701 tr (some ah)) 18 31 hbh hA2) (fun b hb => hb.elim)
  refine ⟨x3.is hi, ?_⟩
  rintro _ rfl
  have x4 := x3.trans (cx_sR (gc_new (gc_sR (gc_new σ ah 18 31) 701 tr (some ah)) bh 18 31) 702 tr (some bh)) (fun b hb => Or.inl (Or.inl hb))
  refine ⟨x4.is hi, ?_⟩
  rintro _ rfl
  have x5 := x4.trans (cx_sR (gc_sR (gc_new (gc_sR (gc_new σ ah 18 31) 701 tr (some ah)) bh 18 31) 702 tr (some bh)) 700 tr (some (A 0))) (fun b hb => Or.inl (Or.inl hb))
  refine ⟨x5.is hi, ?_⟩
  have x6 : cx θ (· = tr) σ (gc_sR (gc_sR (gc_new (gc_sR (gc_new σ ah 18 31) 701 tr (some ah)) bh 18 31) 702 tr (some bh)) 700 tr (some (A 0))) := ((((cx_new (θ := θ) (S := (· = tr)) σ 18 31 hah hA1).trans' (cx_sR (gc_new σ ah 18 31) 701 tr (some ah))).trans (cx_new (θ := θ) (S := fun _ => False) (gc_sR (gc_new σ ah 18 31) 701 tr (some ah)) 18 31 hbh hA2) (fun b hb => hb.elim)).trans' (cx_sR _ 702 tr (some bh))).trans' (cx_sR _ 700 tr (some (A 0)))
  have hd5 : gc_d (gc_sR (gc_sR (gc_new (gc_sR (gc_new σ ah 18 31) 701 tr (some ah)) bh 18 31) 702 tr (some bh)) 700 tr (some (A 0))) = gc_d σ ++ [ah] ++ [bh] := rfl
  have hR : cR (gc_sR (gc_sR (gc_new (gc_sR (gc_new σ ah 18 31) 701 tr (some ah)) bh 18 31) 702 tr (some bh)) 700 tr (some (A 0))) tr ah bh := by
    refine ⟨x5.is hi, ?_, ?_, ⟨?_, ?_⟩, ⟨?_, ?_⟩, ?_, ?_, hab⟩
    · rw [rd_R_sR, if_neg (by simp), rd_R_sR, if_neg (by simp), rd_R_new, if_neg htb, rd_R_sR, if_pos ⟨rfl, rfl⟩]
    · rw [rd_R_sR, if_neg (by simp), rd_R_sR, if_pos ⟨rfl, rfl⟩]
    · rw [hd5]; simp
    · rw [rd_k_sR, rd_k_sR, rd_k_new, if_neg hab, rd_k_sR, rd_k_new, if_pos rfl]
    · rw [hd5]; simp
    · rw [rd_k_sR, rd_k_sR, rd_k_new, if_pos rfl]
    · rw [rd_n_sR, rd_n_sR, rd_n_new, if_neg hab, rd_n_sR, rd_n_new, if_pos rfl]
    · rw [rd_n_sR, rd_n_sR, rd_n_new, if_pos rfl]
  have hr : gc_R (gc_sR (gc_sR (gc_new (gc_sR (gc_new σ ah 18 31) 701 tr (some ah)) bh 18 31) 702 tr (some bh)) 700 tr (some (A 0))) 700 tr = some (A 0) := by rw [rd_R_sR, if_pos ⟨rfl, rfl⟩]
  have w5 : ∀ x, x ∈ gc_d σ → (fun x => if x = bh then tr else if x = ah then tr else ow x) x = ow x := fun x hx => by
    show (if x = bh then tr else if x = ah then tr else ow x) = ow x
    rw [if_neg (fun z : x = bh => hbh0 (z ▸ hx)), if_neg (fun z : x = ah => hah (z ▸ hx))]
  have oc5 : oc (gc_sR (gc_sR (gc_new (gc_sR (gc_new σ ah 18 31) 701 tr (some ah)) bh 18 31) 702 tr (some bh)) 700 tr (some (A 0))) (fun x => if x = bh then tr else if x = ah then tr else ow x) := by
    have o1 : oc (gc_sR (gc_new σ ah 18 31) 701 tr (some ah)) (fun x => if x = ah then tr else ow x) := hoc.new rfl (Or.inl hi.1)
    exact o1.new (q := bh) (o := tr) rfl (Or.inl (List.mem_append_left _ hi.1))
  generalize gc_sR (gc_sR (gc_new (gc_sR (gc_new σ ah 18 31) 701 tr (some ah)) bh 18 31) 702 tr (some bh)) 700 tr (some (A 0)) = τ at *
  have htn : ∀ i, i < tr_n t → ow tr ≠ A i := fun i hi' z => by
    have q1 := (ht.2.1 i hi').isN.2
    rw [ho] at z
    rw [← z, hi.2] at q1
    omega
  have ht5 : cT θ τ (fun x => if x = bh then tr else if x = ah then tr else ow x) L t A := ht.cx hθ x6 (fun q z => by subst z; exact ⟨htn, fun y => by rw [hi.2] at y; omega⟩) w5 (fun _ z => z)
  refine kc_number ht5 hR hr (by have := hsm.1; omega) (fun _ σ' f1 hK => ?_) (fun z => absurd hsm z)
  have hk1 : gc_k τ ah ≠ 20 := by rw [hR.2.2.2.1.2]; decide
  have hk2 : gc_k τ bh ≠ 20 := by rw [hR.2.2.2.2.1.2]; decide
  refine k σ' (fun x => if x = bh then tr else if x = ah then tr else ow x) (x5.trans (f1.cx (θ := θ)) (fun b hb => ?_)) w5 (oc5.same f1.1) ⟨f1.cT ht5 hk1 hk2, ⟨ah, bh, hK, ?_, ?_⟩, ?_, ?_⟩
  · rcases hb with hb | hb | hb | ⟨k, _, hb1, hb2⟩
    · exact Or.inl (Or.inl hb)
    · exact Or.inr (by rw [hb]; exact ⟨hah, hA1⟩)
    · exact Or.inr (by rw [hb]; exact ⟨hbh0, hA2⟩)
    · exact Or.inl (Or.inr ⟨k, hb1, hb2⟩)
  · show (if ah = bh then tr else if ah = ah then tr else ow ah) = tr
    rw [if_neg hab, if_pos rfl]
  · show (if bh = bh then tr else _) = tr
    rw [if_pos rfl]
  · rw [w5 tr hi.1]; exact ho
  · rw [f1.2.2.2.1]
    have n0 := ht.1.1
    rw [(x6.2.2.2 (A 0) (Or.inl (ht.2.1 0 n0).2.1) (fun z => htn 0 n0 (by rw [ho]; exact z.symm))).2.2.2.2.2]
    exact hp
theorem kc_copy (hθ : cTh θ) (hoc : oc σ ow) (h0 : gc_n σ (gc_aD θ) = 0) (hW : cW θ σ ow L tr t A) (hsm : tr_sm t)
    (k : ∀ σ' ow' tr' B, cx θ (fun _ => False) σ σ' → (∀ x, x ∈ gc_d σ → ow' x = ow x) → oc σ' ow' → cW θ σ' ow' L tr' t B → tr' ∉ gc_d σ → (∀ j, j < tr_n t → B j ∉ gc_d σ) → R (some tr') σ')
    (hn : 41 ≤ n := by omega) (hc : 100 ≤ cc := by omega) (hs : 2300 ≤ ss := by omega) : gx_C (gc_O θ) (nX8_copy n cc ss) [.ref tr] σ (gc_Pr R) := by
  obtain ⟨n, rfl⟩ : ∃ k, n = k + 1 := ⟨n - 1, by omega⟩
  have h30 := hsm.1
  obtain ⟨ht, ⟨ah, bh, ⟨hR, g2, g3, g4⟩, g5, g6⟩, h3, h4⟩ := id hW
  have n0 := ht.1.1
  have en0 := dl_en0 ht.1
  refine ec_X8_copy (fun K h => bc_X8_copy_0 h ⟨by omega, by omega, ?_⟩)
  rintro q hq hA _ rfl
  have x1 := cx_new (θ := θ) (S := fun _ => False) σ 7 0 hq hA
  have hqD : gc_aD θ ≠ q := fun z => hθ.2 (z ▸ hA)
  have htq : tr ≠ q := fun z => hq (z ▸ hR.1.1)
  have w1 : ∀ x, x ∈ gc_d σ → (fun x => if x = q then q else ow x) x = ow x := fun x hx => if_neg (fun z : x = q => hq (z ▸ hx))
  have oc1 : oc (gc_new σ q 7 0) (fun x => if x = q then q else ow x) := hoc.new rfl (Or.inr rfl)
  refine ⟨x1.is hR.1, 90, 2140, ⟨by omega, by omega⟩, ?_⟩
  have e7 : gc_R (gc_new σ q 7 0) 700 tr = some (A 0) := by rw [rd_R_new, if_neg htq]; exact g2
  rw [e7]
  refine kc_copy2 hθ (by omega) (tr_n t) 0 _ (fun x => if x = q then q else ow x) n _ _ _ n0 (by rw [en0]; omega) (ht.cx hθ x1 (fun _ z => z.elim) w1 (fun _ z => z)) oc1 (by rw [rd_n_new, if_neg hqD]; exact h0) (fun σ2 ow2 B x2 w2 oc2 hB hfr hp => ?_) (by rw [en0]; omega) (by rw [en0]; omega) (by rw [en0]; omega)
  rw [en0] at hB hfr
  have hB' : cT θ σ2 ow2 L t B := hB.congr rfl (fun i hi => by
    show tr_r t i = rw_dn (tr_d t 0) (tr_r t (0 + i))
    rw [ht.1.2.1, Nat.zero_add]
    rfl) (fun _ _ => rfl)
  have iq : gc_is (gc_new σ q 7 0) q 7 := ⟨List.mem_append_right _ (List.mem_singleton_self q), by rw [rd_k_new, if_pos rfl]⟩
  refine ⟨2, 62, ⟨by omega, by omega⟩, kc_tinit hθ oc2 hB' (x2.is iq) (by rw [w2 q iq.1]; exact if_pos rfl) hsm hp (fun σ3 ow3 x3 w3 oc3 hW3 => ?_)⟩
  have hBf : ∀ j, j < tr_n t → B j ∉ gc_d σ := fun j hj z => hfr j hj (x1.1 _ z)
  have x12 := x1.trans' x2
  refine k σ3 ow3 q B (x12.trans x3 (fun b hb => Or.inr ?_)) (fun x hx => by rw [w3 x (x12.1 x hx), w2 x (x1.1 x hx)]; exact w1 x hx) oc3 hW3 hq hBf
  rcases hb with hb | ⟨j, hj, hb⟩
  · rw [hb]; exact ⟨hq, hA⟩
  · rw [hb]
    exact ⟨hBf j hj, (x12.2.1 _ (hB'.2.1 j hj).2.1).resolve_left (hBf j hj)⟩
/-- the first node of a name; none -/
theorem kc_find {x : Int32} (hW : cW θ σ ow L tr t A) (h30 : tr_n t ≤ 30) (k1 : ∀ i, i < tr_n t → nI (tr_a t i) = x → (∀ j, j < i → ¬ nI (tr_a t j) = x) → R (some (A i)) σ) (k0 : (∀ i, i < tr_n t → ¬ nI (tr_a t i) = x) → R none σ) : gx_C (gc_O θ) (nX8_find n) [.ref tr, .int x] σ (gc_Pr R) := by
  obtain ⟨ht, ⟨ah, bh, ⟨hR, g2, g3, g4⟩, g5, g6⟩, h3, h4⟩ := hW
  refine ec_X8_find (fun K h => bc_X8_find_0 h ?_)
  have key : ∀ m i, i + m = tr_n t → (∀ j, j < i → ¬ nI (tr_a t j) = x) → gc_G θ K (nX8_find n) (gc_Pr R) 2 [(0, va_rf (some tr)), (1, .int x), (2, .int (nI i))] [] σ 0 0 := by
    intro m
    induction m with
    | zero =>
      intro i hi hu
      refine bc_X8_find_2 h ⟨hR.1, ?_⟩
      rw [g3]
      exact pl_le (fun _ => k0 (fun j hj => hu j (by omega))) (fun c => by omega)
    | succ m ih =>
      intro i hi hu
      have hiv : vp_in (nI i) (gc_n σ ah) := by rw [hR.2.2.2.2.2.1]; exact vp_in_nI (by omega) (by decide)
      refine bc_X8_find_2 h ⟨hR.1, ?_⟩
      rw [g3]
      refine pl_le (fun c => by omega) (fun _ => ⟨hR.1, ah, hR.2.1, hR.2.2.2.1, hiv, A i, ?_, (ht.2.1 i (by omega)).isN, ?_⟩)
      · rw [nI_clamp (by omega)]; exact (g4 i (by omega)).1
      · rw [nI_clamp (by omega), (g4 i (by omega)).1, (ht.2.1 i (by omega)).2.2.2.2.1]
        refine ⟨fun e => ⟨hR.1, hR.2.2.2.1, hiv, k1 i (by omega) e hu⟩, fun e => ?_⟩
        rw [nI_1]
        exact ih (i + 1) (by omega) (fun j hj => by
          by_cases z : j = i
          · rw [z]; exact e
          · exact hu j (by omega))
  exact key (tr_n t) 0 (by omega) (fun j hj => by omega)
end CK
