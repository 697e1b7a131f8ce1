/-! nodes are numbered -/
theorem dl_at_cut {d : Nat → Nat} {n i k j : Nat} (h : dl_ok d n) (hi : i < n) (hj : i < j) (hj2 : j < dl_at d n i k) : dl_en d n j ≤ dl_at d n i k := by
  have hl := dl_at_le (k := k) h hi
  by_cases c : k < (dl_cl d n i).length
  · obtain ⟨a1, a2, a3⟩ := dl_at_in h hi c
    have hn := (dl_en_spec (d := d) hi).2.1
    refine Nat.not_lt.mp (fun z => ?_)
    have := (dl_en_spec (d := d) (n := n) (i := j) (by omega)).2.2.1 _ hj2 z
    have := (dl_en_spec (d := d) hi).2.2.1 j hj (by omega)
    omega
  · rw [dl_at_len (by omega)] at hj2 ⊢
    exact dl_en_in hi hj hj2
/-- what the numbering of a branch may change -/
def nb_fr (tr ah bh : Nat) (A : Nat → Nat) (lo hi : Nat) (σ σ' : gc_S) : Prop := gc_d σ' = gc_d σ ∧ gc_k σ' = gc_k σ ∧ gc_n σ' = gc_n σ ∧ gc_R σ' = gc_R σ ∧ gc_E σ' = gc_E σ ∧ (∀ a, a ≠ ah → a ≠ bh → gc_Q σ' a = gc_Q σ a) ∧ ∀ f a, ¬ (a = tr ∧ (f = 703 ∨ f = 704)) → ¬ ((∃ k, lo ≤ k ∧ k < hi ∧ a = A k) ∧ 805 ≤ f ∧ f ≤ 808) → gc_I σ' f a = gc_I σ f a
theorem nb_fr.refl {tr ah bh : Nat} {A : Nat → Nat} {lo hi : Nat} (σ : gc_S) : nb_fr tr ah bh A lo hi σ σ := ⟨rfl, rfl, rfl, rfl, rfl, fun _ _ _ => rfl, fun _ _ _ _ => rfl⟩
theorem nb_fr.trans {tr ah bh : Nat} {A : Nat → Nat} {lo hi l2 h2 : Nat} {σ σ1 σ2 : gc_S} (h : nb_fr tr ah bh A lo hi σ σ1) (k : nb_fr tr ah bh A l2 h2 σ1 σ2) (hl : lo ≤ l2) (hh : h2 ≤ hi) : nb_fr tr ah bh A lo hi σ σ2 := by
  obtain ⟨a1, a2, a3, a4, a5, a6, a7⟩ := h
  obtain ⟨b1, b2, b3, b4, b5, b6, b7⟩ := k
  refine ⟨b1.trans a1, b2.trans a2, b3.trans a3, b4.trans a4, b5.trans a5, fun a q1 q2 => (b6 a q1 q2).trans (a6 a q1 q2), fun f a q1 q2 => (b7 f a q1 (fun z => q2 ⟨?_, z.2⟩)).trans (a7 f a q1 q2)⟩
  obtain ⟨⟨k, z1, z2, z3⟩, _⟩ := z
  exact ⟨k, by omega, by omega, z3⟩
theorem nb_I {tr ah bh : Nat} {A : Nat → Nat} {lo hi k f : Nat} (σ : gc_S) (v : Int32) (h1 : lo ≤ k) (h2 : k < hi) (hf : 805 ≤ f ∧ f ≤ 808) : nb_fr tr ah bh A lo hi σ (gc_sI σ f (A k) v) :=
  ⟨rfl, rfl, rfl, rfl, rfl, fun _ _ _ => rfl, fun g a _ q => by rw [rd_I_sI, if_neg (fun z => q ⟨⟨k, h1, h2, z.2⟩, by omega⟩)]⟩
theorem nb_T {tr ah bh : Nat} {A : Nat → Nat} {lo hi f : Nat} (σ : gc_S) (v : Int32) (hf : f = 703 ∨ f = 704) : nb_fr tr ah bh A lo hi σ (gc_sI σ f tr v) :=
  ⟨rfl, rfl, rfl, rfl, rfl, fun _ _ _ => rfl, fun g a q _ => by rw [rd_I_sI, if_neg (fun z => q ⟨z.2, by omega⟩)]⟩
theorem nb_Q1 {tr ah bh : Nat} {A : Nat → Nat} {lo hi i : Nat} (σ : gc_S) (v : Option Nat) : nb_fr tr ah bh A lo hi σ (gc_sQ σ ah i v) :=
  ⟨rfl, rfl, rfl, rfl, rfl, fun a q _ => va_up_ne _ _ q, fun _ _ _ _ => rfl⟩
theorem nb_Q2 {tr ah bh : Nat} {A : Nat → Nat} {lo hi i : Nat} (σ : gc_S) (v : Option Nat) : nb_fr tr ah bh A lo hi σ (gc_sQ σ bh i v) :=
  ⟨rfl, rfl, rfl, rfl, rfl, fun a _ q => va_up_ne _ _ q, fun _ _ _ _ => rfl⟩
theorem nb_fr.cN {θ : gc_T} {ow : Nat → Nat} {L : Nat → Prop} {a : Nat} {r : rw_} {ch : List Nat} {tr ah bh : Nat} {A : Nat → Nat} {lo hi : Nat} {σ σ' : gc_S} (h : nb_fr tr ah bh A lo hi σ σ') (k : cN θ σ ow L a r ch) (h1 : gc_k σ ah ≠ 20) (h2 : gc_k σ bh ≠ 20) : cN θ σ' ow L a r ch := by
  obtain ⟨a1, a2, a3, a4, a5, a6, a7⟩ := h
  have e1 : ∀ a, gc_I σ' 800 a = gc_I σ 800 a := fun a => a7 800 a (fun z => by omega) (fun z => by omega)
  have e2 : ∀ a, gc_I σ' 1202 a = gc_I σ 1202 a := fun a => a7 1202 a (fun z => by omega) (fun z => by omega)
  obtain ⟨k1, k2, k3, k4, k5, ⟨b1, k6, k7⟩, ⟨b2, k8, k9⟩, c, k10, g1, g2, g3, r', g4, g5⟩ := k
  have hB : ∀ {b : Nat} {bs : List Nat}, cB θ σ L b bs → cB θ σ' L b bs := fun {b bs} z => by
    unfold cB gc_is at z ⊢
    rw [a1, a2, a3, a5]
    exact z
  have hV : ∀ y, gc_isV θ σ y → gc_isV θ σ' y := fun y z => by
    unfold gc_isV gc_isN gc_is at z ⊢
    rw [a1, a2]
    exact z
  refine ⟨k1, by rw [a1]; exact k2, by rw [a2]; exact k3, k4, by rw [e1]; exact k5, ⟨b1, by rw [a4]; exact k6, hB k7⟩, ⟨b2, by rw [a4]; exact k8, hB k9⟩, c, by rw [a4]; exact k10, g1, ?_, by rw [e2]; exact g3, r', by rw [a4]; exact g4, ?_⟩
  · unfold gc_is at g2 ⊢
    rw [a1, a2]; exact g2
  · rcases g5 with g5 | ⟨q1, q2, q3, q4, q5, q6, q7⟩
    · exact Or.inl ⟨g5.1, by rw [a3]; exact g5.2.1, g5.2.2⟩
    · have eQ : gc_Q σ' r' = gc_Q σ r' := a6 r' (fun z => h1 (z ▸ q2.2)) (fun z => h2 (z ▸ q2.2))
      refine Or.inr ⟨q1, ?_, by rw [a3]; exact q3, by rw [a3]; exact q4, by rw [a3]; exact q5, fun j hj => by rw [eQ]; exact q6 j hj, fun j y hy => hV y (q7 j y (by rw [← eQ]; exact hy))⟩
      unfold gc_is at q2 ⊢
      rw [a1, a2]; exact q2
theorem nb_fr.cT {θ : gc_T} {ow : Nat → Nat} {L : Nat → Prop} {t : tr_} {tr ah bh : Nat} {A B : Nat → Nat} {lo hi : Nat} {σ σ' : gc_S} (h : nb_fr tr ah bh B lo hi σ σ') (k : cT θ σ ow L t A) (h1 : gc_k σ ah ≠ 20) (h2 : gc_k σ bh ≠ 20) : cT θ σ' ow L t A :=
  ⟨k.1, fun i hi => h.cN (k.2.1 i hi) h1 h2, fun i h0 hi => by rw [h.2.2.2.1]; exact k.2.2.1 i h0 hi, k.2.2.2⟩
/-- a node's numbers -/
def nb_at (σ : gc_S) (ah bh : Nat) (t : tr_) (A : Nat → Nat) (k : Nat) : Prop := gc_Q σ ah k = some (A k) ∧ gc_I σ 805 (A k) = nI k ∧ gc_I σ 806 (A k) = nI (dl_bh (tr_d t) (tr_n t) k) ∧ gc_I σ 807 (A k) = nI (dl_lo (tr_d t) k) ∧ gc_I σ 808 (A k) = nI (tr_d t k) ∧ gc_Q σ bh (dl_bh (tr_d t) (tr_n t) k) = some (A k)
/-- a tree's cell and its two rows -/
def cR (σ : gc_S) (tr ah bh : Nat) : Prop := gc_is σ tr 7 ∧ gc_R σ 701 tr = some ah ∧ gc_R σ 702 tr = some bh ∧ gc_is σ ah 18 ∧ gc_is σ bh 18 ∧ gc_n σ ah = 31 ∧ gc_n σ bh = 31 ∧ ah ≠ bh
theorem nb_fr.toR {tr ah bh tr' ah' bh' : Nat} {A : Nat → Nat} {lo hi : Nat} {σ σ' : gc_S} (h : nb_fr tr ah bh A lo hi σ σ') (k : cR σ tr' ah' bh') : cR σ' tr' ah' bh' := by
  obtain ⟨a1, a2, a3, a4, a5, a6, a7⟩ := h
  unfold cR gc_is at k ⊢
  rw [a1, a2, a3, a4]
  exact k
section NB
variable {θ : gc_T} {t : tr_} {A : Nat → Nat} {L : Nat → Prop} {ow : Nat → Nat} {tr ah bh : Nat}
theorem kc_number2 (hn40 : tr_n t ≤ 40) : ∀ (m i : Nat) (σ : gc_S) (n : Nat) (P : Int32 → gc_S → Prop), i < tr_n t → dl_en (tr_d t) (tr_n t) i - i ≤ m → cT θ σ ow L t A → cR σ tr ah bh → gc_I σ 703 tr = nI i → gc_I σ 704 tr = nI (i - tr_d t i) → gc_I σ 808 (A i) = nI (tr_d t i) → i ≤ 30 →
    (∀ σ', nb_fr tr ah bh A i (dl_en (tr_d t) (tr_n t) i) σ σ' → (∀ k, i ≤ k → k < dl_en (tr_d t) (tr_n t) i → k < 30 ∧ tr_d t k < 12) → gc_I σ' 703 tr = nI (dl_en (tr_d t) (tr_n t) i) → gc_I σ' 704 tr = nI (dl_en (tr_d t) (tr_n t) i - tr_d t i) → (∀ k, i ≤ k → k < dl_en (tr_d t) (tr_n t) i → nb_at σ' ah bh t A k) →
      (∀ k, (k < i ∨ dl_en (tr_d t) (tr_n t) i ≤ k) → gc_Q σ' ah k = gc_Q σ ah k) → (∀ b, (b < dl_lo (tr_d t) i ∨ dl_bh (tr_d t) (tr_n t) i < b) → gc_Q σ' bh b = gc_Q σ bh b) → P 1 σ') →
    (∀ σ', nb_fr tr ah bh A i (dl_en (tr_d t) (tr_n t) i) σ σ' → (∃ k, i ≤ k ∧ k < dl_en (tr_d t) (tr_n t) i ∧ (k = 30 ∨ 12 ≤ tr_d t k)) → P 0 σ') →
    5 + (dl_en (tr_d t) (tr_n t) i - i) ≤ n → gx_C (gc_O θ) (nX8_number_2 n) [.ref tr, .ref (A i)] σ (gc_Pi P) := by
  intro m
  induction m with
  | zero =>
    intro i σ n P hi hm
    have := (dl_en_spec (d := tr_d t) hi).1
    omega
  | succ m ih =>
    intro i σ n P hi hm ht hR s1 s2 s3 hi30 k1 k0 hn
    obtain ⟨n, rfl⟩ : ∃ k, n = k + 1 := ⟨n - 1, by omega⟩
    obtain ⟨e1, e2, e3, e4⟩ := dl_en_spec (d := tr_d t) hi
    have hdi := dl_d_le ht.1 i hi
    have hlen := dl_len_lt ht.1 hi
    have hbl := dl_bh_lo ht.1 hi
    have hNi := ht.2.1 i hi
    have hk1 : gc_k σ ah ≠ 20 := by rw [hR.2.2.2.1.2]; decide
    have hk2 : gc_k σ bh ≠ 20 := by rw [hR.2.2.2.2.1.2]; decide
    refine ec_X8_number_2 (x1 := some (A i)) (fun K h => bc_X8_number_2_0 h ⟨hR.1, ?_⟩)
    rw [s1]
    have hch : ∀ {σ1 : gc_S}, nb_fr tr ah bh A i (dl_en (tr_d t) (tr_n t) i) σ σ1 → cT θ σ1 ow L t A := fun f => f.cT ht hk1 hk2
    have htr : ∀ k, k < tr_n t → tr ≠ A k := fun k hk z => by
      have q1 := (ht.2.1 k hk).isN.2
      have q2 := hR.1.2
      rw [z] at q2
      omega
    refine pl_eq (b := 30) (fun c => bc_X8_number_2_18 h (k0 σ (nb_fr.refl σ) ⟨i, Nat.le_refl _, e1, Or.inl c⟩)) (fun c30 => ⟨A i, rfl, hNi.isN, ?_⟩)
    rw [s3]
    refine pl_lt (b := 12) (fun c12 => ?_) (fun c => bc_X8_number_2_18 h (k0 σ (nb_fr.refl σ) ⟨i, Nat.le_refl _, e1, Or.inr c⟩))
    have key : ∀ (f k : Nat) (σ1 : gc_S), k + f = (dl_cl (tr_d t) (tr_n t) i).length → nb_fr tr ah bh A i (dl_en (tr_d t) (tr_n t) i) σ σ1 → gc_I σ1 703 tr = nI (dl_at (tr_d t) (tr_n t) i k) → gc_I σ1 704 tr = nI (dl_at (tr_d t) (tr_n t) i k - (tr_d t i + 1)) → gc_Q σ1 ah i = some (A i) → gc_I σ1 805 (A i) = nI i → gc_I σ1 807 (A i) = nI (dl_lo (tr_d t) i) → gc_I σ1 808 (A i) = nI (tr_d t i) →
        (∀ k', i < k' → k' < dl_at (tr_d t) (tr_n t) i k → nb_at σ1 ah bh t A k') → (∀ k', i ≤ k' → k' < dl_at (tr_d t) (tr_n t) i k → k' < 30 ∧ tr_d t k' < 12) → (∀ k', (k' < i ∨ dl_en (tr_d t) (tr_n t) i ≤ k') → gc_Q σ1 ah k' = gc_Q σ ah k') → (∀ b, (b < dl_lo (tr_d t) i ∨ dl_bh (tr_d t) (tr_n t) i < b) → gc_Q σ1 bh b = gc_Q σ bh b) →
        gc_G θ K (nX8_number_2 (n + 1)) (gc_Pi P) 58 [(0, va_rf (some tr)), (1, va_rf (some (A i))), (2, .int (nI k))] [] σ1 0 0 := by
      intro f
      induction f with
      | zero =>
        intro k σ1 hk f1 g1 g2 g3 g4 g5 g6 g7 g8 g9 g10
        have hN1 := (hch f1).2.1 i hi
        have hR1 := f1.toR hR
        obtain ⟨c, q5, q6⟩ := hN1.2.2.2.2.2.2.2
        have hat := dl_at_len (d := tr_d t) (n := tr_n t) (i := i) (k := k) (by omega)
        rw [hat] at g1 g2 g7 g8
        refine bc_X8_number_2_58 h ⟨A i, rfl, hN1.isN, c, q5, q6.2.1, kc_size q6 ?_⟩
        rw [List.length_map]
        refine pl_le (fun _ => ⟨hR1.1, hR1.1, bh, hR1.2.2.1, hR1.2.2.2.2.1, ?_⟩) (fun c => by omega)
        have hbi : dl_en (tr_d t) (tr_n t) i - (tr_d t i + 1) = dl_bh (tr_d t) (tr_n t) i := by omega
        rw [g2, hR1.2.2.2.2.2.2.1, hbi, nI_clamp (by omega)]
        have hb30 : dl_bh (tr_d t) (tr_n t) i < 31 := by
          have := g8 (dl_en (tr_d t) (tr_n t) i - 1) (by omega) (by omega)
          omega
        refine ⟨vp_in_nI hb30 (by decide), fun v hv => by obtain rfl := Option.some.inj hv; exact hN1.isN, ?_⟩
        rintro _ rfl
        refine ⟨hR1.1, hN1.isN, ?_⟩
        rintro _ rfl
        refine ⟨hR1.1, hR1.1, ?_⟩
        rintro _ rfl
        have v1 : gc_I (gc_sQ σ1 bh (dl_bh (tr_d t) (tr_n t) i) (some (A i))) 704 tr = nI (dl_bh (tr_d t) (tr_n t) i) := by rw [rd_I_sQ, g2, hbi]
        rw [v1]
        have v2 : gc_I (gc_sI (gc_sQ σ1 bh (dl_bh (tr_d t) (tr_n t) i) (some (A i))) 806 (A i) (nI (dl_bh (tr_d t) (tr_n t) i))) 704 tr = nI (dl_bh (tr_d t) (tr_n t) i) := by rw [rd_I_sI, if_neg (by simp), v1]
        rw [v2, nI_1]
        have f2 := ((f1.trans (nb_Q2 (A := A) (lo := i) (hi := dl_en (tr_d t) (tr_n t) i) (i := dl_bh (tr_d t) (tr_n t) i) σ1 (some (A i))) (Nat.le_refl _) (Nat.le_refl _)).trans (nb_I (k := i) (f := 806) (gc_sQ σ1 bh (dl_bh (tr_d t) (tr_n t) i) (some (A i))) (nI (dl_bh (tr_d t) (tr_n t) i)) (Nat.le_refl _) e1 (by decide)) (Nat.le_refl _) (Nat.le_refl _)).trans (nb_T (f := 704) (gc_sI (gc_sQ σ1 bh (dl_bh (tr_d t) (tr_n t) i) (some (A i))) 806 (A i) (nI (dl_bh (tr_d t) (tr_n t) i))) (nI (dl_bh (tr_d t) (tr_n t) i + 1)) (Or.inr rfl)) (Nat.le_refl _) (Nat.le_refl _)
        refine k1 _ f2 g8 ?_ ?_ ?_ ?_ ?_
        · rw [rd_I_sI, if_neg (by simp), rd_I_sI, if_neg (by simp), rd_I_sQ]; exact g1
        · rw [rd_I_sI, if_pos ⟨rfl, rfl⟩]
          congr 1
          omega
        · intro k' z1 z2
          by_cases zi : k' = i
          · subst zi
            refine ⟨?_, ?_, ?_, ?_, ?_, ?_⟩
            · rw [rd_Q_sI, rd_Q_sI, rd_Q_sQ, if_neg (fun z => hR.2.2.2.2.2.2.2 z.1)]; exact g3
            · rw [rd_I_sI, if_neg (by simp), rd_I_sI, if_neg (by simp), rd_I_sQ]; exact g4
            · rw [rd_I_sI, if_neg (by simp), rd_I_sI, if_pos ⟨rfl, rfl⟩]
            · rw [rd_I_sI, if_neg (by simp), rd_I_sI, if_neg (by simp), rd_I_sQ]; exact g5
            · rw [rd_I_sI, if_neg (by simp), rd_I_sI, if_neg (by simp), rd_I_sQ]; exact g6
            · rw [rd_Q_sI, rd_Q_sI, rd_Q_sQ, if_pos ⟨rfl, rfl⟩]
          · obtain ⟨n1, n2, n3, n4, n5, n6⟩ := g7 k' (by omega) z2
            have hne : A k' ≠ A i := fun z => zi (ht.2.2.2 k' i (by omega) hi z)
            refine ⟨?_, ?_, ?_, ?_, ?_, ?_⟩
            · rw [rd_Q_sI, rd_Q_sI, rd_Q_sQ, if_neg (fun z => hR.2.2.2.2.2.2.2 z.1)]; exact n1
            · rw [rd_I_sI, if_neg (by simp), rd_I_sI, if_neg (by simp), rd_I_sQ]; exact n2
            · rw [rd_I_sI, if_neg (by simp), rd_I_sI, if_neg (fun z => hne z.2), rd_I_sQ]; exact n3
            · rw [rd_I_sI, if_neg (by simp), rd_I_sI, if_neg (by simp), rd_I_sQ]; exact n4
            · rw [rd_I_sI, if_neg (by simp), rd_I_sI, if_neg (by simp), rd_I_sQ]; exact n5
            · rw [rd_Q_sI, rd_Q_sI, rd_Q_sQ, if_neg (fun z => zi (dl_bh_inj ht.1 (by omega) hi z.2))]; exact n6
        · intro k' z
          rw [rd_Q_sI, rd_Q_sI, rd_Q_sQ, if_neg (fun z => hR.2.2.2.2.2.2.2 z.1)]; exact g9 k' z
        · intro b z
          rw [rd_Q_sI, rd_Q_sI, rd_Q_sQ, if_neg (fun y => by omega)]; exact g10 b z
      | succ f ihf =>
        intro k σ1 hk f1 g1 g2 g3 g4 g5 g6 g7 g8 g9 g10
        have hk' : k < (dl_cl (tr_d t) (tr_n t) i).length := by omega
        have hN1 := (hch f1).2.1 i hi
        have hR1 := f1.toR hR
        obtain ⟨c, q5, q6⟩ := hN1.2.2.2.2.2.2.2
        obtain ⟨a1, a2, a3⟩ := dl_at_in ht.1 hi hk'
        have hs1 := dl_at_s ht.1 hi hk'
        have hcut : ∀ j, i < j → j < dl_at (tr_d t) (tr_n t) i k → dl_en (tr_d t) (tr_n t) j ≤ dl_at (tr_d t) (tr_n t) i k := fun j => dl_at_cut ht.1 hi
        have hen := dl_en_in (d := tr_d t) (n := tr_n t) (i := i) (j := dl_at (tr_d t) (tr_n t) i k) hi a1 a2
        obtain ⟨y1, y2, y3, y4⟩ := dl_en_spec (d := tr_d t) (n := tr_n t) (i := dl_at (tr_d t) (tr_n t) i k) (by omega)
        have hget : ((dl_cl (tr_d t) (tr_n t) i).map A).getD k 0 = A (dl_at (tr_d t) (tr_n t) i k) := by
          rw [List.getD_eq_getElem?_getD, List.getElem?_map, dl_at_get hk']
          rfl
        refine bc_X8_number_2_58 h ⟨A i, rfl, hN1.isN, c, q5, q6.2.1, kc_size q6 ?_⟩
        rw [List.length_map]
        refine pl_le (fun c => by omega) (fun _ => ⟨hN1.isN, c, q5, q6.2.1, kc_get q6 k (by rw [List.length_map]; omega) ?_⟩)
        rw [hget]
        generalize hat : dl_at (tr_d t) (tr_n t) i k = a at *
        have hNa := (hch f1).2.1 a (by omega)
        refine ⟨fun b hb => by obtain rfl := Option.some.inj hb; exact hNa.isN, hN1.isN, A a, rfl, hNa.isN, ?_⟩
        rintro _ rfl
        rw [g6, nI_1]
        have f2 := f1.trans (nb_I (tr := tr) (ah := ah) (bh := bh) (A := A) (k := a) (f := 808) σ1 (nI (tr_d t i + 1)) (lo := i) (hi := dl_en (tr_d t) (tr_n t) i) (by omega) (by omega) (by decide)) (Nat.le_refl _) (Nat.le_refl _)
        have hN2 := (hch f2).2.1 i hi
        obtain ⟨c', p5, p6⟩ := hN2.2.2.2.2.2.2.2
        have hNa2 := (hch f2).2.1 a (by omega)
        refine ⟨hN2.isN, c', p5, p6.2.1, kc_get p6 k (by rw [List.length_map]; omega) ?_⟩
        rw [hget]
        have hR2 := f2.toR hR
        have hia : A i ≠ A a := fun z => by have := ht.2.2.2 i a hi (by omega) z; omega
        refine ⟨fun b hb => by obtain rfl := Option.some.inj hb; exact hNa2.isN, hR2.1, ?_⟩
        have ha30 := g8 (a - 1) (by omega) (by omega)
        refine ih a _ n _ (by omega) (by omega) (hch f2) hR2 (by rw [rd_I_sI, if_neg (by simp)]; exact g1) (by rw [rd_I_sI, if_neg (by simp), a3]; exact g2) (by rw [rd_I_sI, if_pos ⟨rfl, rfl⟩, a3]) (by omega) (fun σ2 r1 r2 r3 r4 r5 r6 r7 => ?_) (fun σ2 r1 r2 => ?_) (by omega)
        · refine ⟨fun q => absurd q (by decide), fun _ => ?_⟩
          rw [nI_1]
          have f3 := f2.trans r1 (by omega) (by omega)
          have hI : ∀ f k', k' < a → i ≤ k' → 805 ≤ f → f ≤ 808 → gc_I σ2 f (A k') = gc_I σ1 f (A k') := fun f k' w1 w2 w3 w4 => by
            rw [r1.2.2.2.2.2.2 f (A k') (fun z => htr k' (by omega) z.1.symm) (fun ⟨⟨k'', z1, z2, z3⟩, _⟩ => by have := ht.2.2.2 k' k'' (by omega) (by omega) z3; omega), rd_I_sI, if_neg (fun z => by have := ht.2.2.2 k' a (by omega) (by omega) z.2; omega)]
          refine ihf (k + 1) σ2 (by omega) f3 (by rw [hs1]; exact r3) (by rw [hs1, ← a3]; exact r4) ?_ ?_ ?_ ?_ ?_ ?_ ?_ ?_
          · rw [r6 i (by omega), rd_Q_sI]; exact g3
          · rw [hI 805 i (by omega) (by omega) (by decide) (by decide)]; exact g4
          · rw [hI 807 i (by omega) (by omega) (by decide) (by decide)]; exact g5
          · rw [hI 808 i (by omega) (by omega) (by decide) (by decide)]; exact g6
          · rw [hs1]
            intro k' z1 z2
            by_cases z : k' < a
            · obtain ⟨n1, n2, n3, n4, n5, n6⟩ := g7 k' z1 z
              have hbo := dl_bh_out ht.1 (i := k') (j := a) (by omega) (hcut k' z1 z) (by omega)
              exact ⟨by rw [r6 k' (by omega), rd_Q_sI]; exact n1, by rw [hI 805 k' z (by omega) (by decide) (by decide)]; exact n2, by rw [hI 806 k' z (by omega) (by decide) (by decide)]; exact n3, by rw [hI 807 k' z (by omega) (by decide) (by decide)]; exact n4, by rw [hI 808 k' z (by omega) (by decide) (by decide)]; exact n5, by rw [r7 _ (Or.inl hbo), rd_Q_sI]; exact n6⟩
            · exact r5 k' (by omega) z2
          · rw [hs1]
            intro k' z1 z2
            by_cases z : k' < a
            · exact g8 k' z1 z
            · exact r2 k' (by omega) z2
          · intro k' z
            rw [r6 k' (by omega), rd_Q_sI]; exact g9 k' z
          · intro b z
            have hbi := dl_bh_in ht.1 hi a1 a2
            rw [r7 b (by omega), rd_Q_sI]; exact g10 b z
        · refine ⟨fun _ => ?_, fun q => absurd rfl q⟩
          obtain ⟨k', z1, z2, z3⟩ := r2
          exact k0 σ2 (f2.trans r1 (by omega) (by omega)) ⟨k', by omega, by omega, z3⟩
    have h00 := dl_at_0 ht.1 hi
    refine ⟨hR.1, hR.1, ah, hR.2.1, hR.2.2.2.1, by rw [hR.2.2.2.2.2.1]; exact vp_in_nI (by omega) (by decide), fun v hv => by obtain rfl := Option.some.inj hv; exact hNi.isN, ?_⟩
    rw [nI_clamp (by omega)]
    rintro _ rfl
    refine ⟨hR.1, hNi.isN, ?_⟩
    rintro _ rfl
    refine ⟨hR.1, hR.1, ?_⟩
    rintro _ rfl
    refine ⟨hR.1, hNi.isN, ?_⟩
    rintro _ rfl
    have v1 : gc_I (gc_sQ σ ah i (some (A i))) 703 tr = nI i := s1
    rw [v1]
    have v2 : gc_I (gc_sI (gc_sQ σ ah i (some (A i))) 805 (A i) (nI i)) 703 tr = nI i := by rw [rd_I_sI, if_neg (by simp)]; exact s1
    rw [v2, nI_1]
    have v3 : gc_I (gc_sI (gc_sI (gc_sQ σ ah i (some (A i))) 805 (A i) (nI i)) 703 tr (nI (i + 1))) 704 tr = nI (i - tr_d t i) := by rw [rd_I_sI, if_neg (by simp), rd_I_sI, if_neg (by simp)]; exact s2
    rw [v3]
    have f1 := (((nb_Q1 (tr := tr) (ah := ah) (bh := bh) (A := A) (lo := i) (hi := dl_en (tr_d t) (tr_n t) i) (i := i) σ (some (A i))).trans (nb_I (k := i) (f := 805) (gc_sQ σ ah i (some (A i))) (nI i) (Nat.le_refl _) e1 (by decide)) (Nat.le_refl _) (Nat.le_refl _)).trans (nb_T (f := 703) (gc_sI (gc_sQ σ ah i (some (A i))) 805 (A i) (nI i)) (nI (i + 1)) (Or.inl rfl)) (Nat.le_refl _) (Nat.le_refl _)).trans (nb_I (k := i) (f := 807) (gc_sI (gc_sI (gc_sQ σ ah i (some (A i))) 805 (A i) (nI i)) 703 tr (nI (i + 1))) (nI (i - tr_d t i)) (Nat.le_refl _) e1 (by decide)) (Nat.le_refl _) (Nat.le_refl _)
    refine key _ 0 _ (Nat.zero_add _) f1 ?_ ?_ ?_ ?_ ?_ ?_ ?_ ?_ ?_ ?_
    · rw [rd_I_sI, if_neg (by simp), rd_I_sI, if_pos ⟨rfl, rfl⟩, h00]
    · rw [rd_I_sI, if_neg (by simp), v3, h00]
      congr 1
      omega
    · rw [rd_Q_sI, rd_Q_sI, rd_Q_sI, rd_Q_sQ, if_pos ⟨rfl, rfl⟩]
    · rw [rd_I_sI, if_neg (by simp), rd_I_sI, if_neg (by simp), rd_I_sI, if_pos ⟨rfl, rfl⟩]
    · rw [rd_I_sI, if_pos ⟨rfl, rfl⟩]
      rfl
    · rw [rd_I_sI, if_neg (by simp), rd_I_sI, if_neg (by simp), rd_I_sI, if_neg (by simp), rd_I_sQ]; exact s3
    · rw [h00]
      intro k' z1 z2
      omega
    · rw [h00]
      intro k' z1 z2
      have : k' = i := by omega
      rw [this]
      omega
    · intro k' z
      rw [rd_Q_sI, rd_Q_sI, rd_Q_sI, rd_Q_sQ, if_neg (fun y => by omega)]
    · intro b z
      rw [rd_Q_sI, rd_Q_sI, rd_Q_sI, rd_Q_sQ, if_neg (fun y => hR.2.2.2.2.2.2.2 y.1.symm)]
end NB
