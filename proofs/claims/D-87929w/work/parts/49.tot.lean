/-! every call has one answer and one state behind it -/
def sp_tot (c : Nat) (S : zP → Prop) : Prop := ∃ (r : Int32) (z' : zz), zok (c + 1) z' ∧ ∀ Q : zP, Q r z' → S Q
section TOT
variable {c : Nat} {z : zz}
theorem tot_1 {r : Int32} {z' : zz} (h : zok (c + 1) z') : sp_tot c (fun Q => Q r z') := ⟨r, z', h, fun _ q => q⟩
theorem tot_f (h : zok c z) (f : Nat) : sp_tot c (fun Q => sp_f z Q f) := ⟨-nI f, z_f z f, h.up, fun _ q => q⟩
theorem tot_if {A : Prop} {S T : zP → Prop} (h1 : A → sp_tot c S) (h2 : ¬ A → sp_tot c T) : sp_tot c (fun Q => (A → S Q) ∧ (¬ A → T Q)) := by
  by_cases a : A
  · obtain ⟨r, z', k1, k2⟩ := h1 a
    exact ⟨r, z', k1, fun Q q => ⟨fun _ => k2 Q q, fun b => absurd a b⟩⟩
  · obtain ⟨r, z', k1, k2⟩ := h2 a
    exact ⟨r, z', k1, fun Q q => ⟨fun b => absurd b a, fun _ => k2 Q q⟩⟩
theorem tot_pl {p : Int32} {K : Nat → zP → Prop} {E : zP → Prop} (h1 : ∀ q, q < 8 → p = nI q → sp_tot c (K q)) (h2 : sp_tot c E) : sp_tot c (fun Q => sp_pl p (fun q => K q Q) (E Q)) := by
  by_cases a : p < 0 ∨ nI 8 ≤ p
  · obtain ⟨r, z', k1, k2⟩ := h2
    exact ⟨r, z', k1, fun Q q => ⟨fun q' hq e => absurd e (nI_pl a hq), fun _ => k2 Q q⟩⟩
  · obtain ⟨j, hj, rfl⟩ := nI_ix (n := 8) (by decide) (fun y => a (Or.inl y)) (fun y => a (Or.inr y))
    obtain ⟨r, z', k1, k2⟩ := h1 j hj rfl
    refine ⟨r, z', k1, fun Q q => ⟨fun q' hq e => ?_, fun b => absurd b a⟩⟩
    rw [nI_eq (by omega) (by omega)] at e
    rw [← e]; exact k2 Q q
theorem tot_ix {x : Int32} {n : Nat} {K : Nat → zP → Prop} {E : zP → Prop} (hn : n < 2 ^ 31) (h1 : ∀ j, j < n → sp_tot c (K j)) (h2 : sp_tot c E) : sp_tot c (fun Q => sp_ix x n (fun j => K j Q) (E Q)) := by
  by_cases a : ∃ j, j < n ∧ x = nI j
  · obtain ⟨j, hj, rfl⟩ := a
    obtain ⟨r, z', k1, k2⟩ := h1 j hj
    refine ⟨r, z', k1, fun Q q => ⟨fun j' hj' e => ?_, fun b => absurd rfl (b j hj)⟩⟩
    rw [nI_eq (by omega) (by omega)] at e
    rw [← e]; exact k2 Q q
  · obtain ⟨r, z', k1, k2⟩ := h2
    exact ⟨r, z', k1, fun Q q => ⟨fun j hj e => absurd ⟨j, hj, e⟩ a, fun _ => k2 Q q⟩⟩
theorem tot_tree {p : Int32} {K : Nat → zP → Prop} (h : zok c z) (h1 : ∀ q, q < 8 → tr_n (zt z q) ≠ 0 → sp_tot c (K q)) : sp_tot c (fun Q => sp_tree p z Q (fun q => K q Q)) :=
  tot_pl (K := fun q Q => (tr_n (zt z q) = 0 → sp_f z Q 2) ∧ (tr_n (zt z q) ≠ 0 → K q Q)) (fun q hq _ => tot_if (fun _ => tot_f h 2) (fun n0 => h1 q hq n0)) (tot_f h 1)
theorem tot_named {N : Nat} {t : tr_} {x : Int32} {K : Nat → zP → Prop} {E : zP → Prop} (ht : tr_ok N t) (hN : N < 2 ^ 31) (h1 : ∀ i, i < tr_n t → sp_tot c (K i)) (h2 : sp_tot c E) : sp_tot c (fun Q => sp_named t x (fun i => K i Q) (E Q)) := by
  by_cases a : ∃ i, i < tr_n t ∧ nI (tr_a t i) = x
  · obtain ⟨i, hi, rfl⟩ := a
    obtain ⟨r, z', k1, k2⟩ := h1 i hi
    refine ⟨r, z', k1, fun Q q => ⟨fun j hj e => ?_, fun b => absurd rfl (b i hi)⟩⟩
    have b1 := (ht.2.2.1 i hi).1
    have b2 := (ht.2.2.1 j hj).1
    rw [nI_eq (by show rw_a (tr_r t j) < _; omega) (by show rw_a (tr_r t i) < _; omega)] at e
    rw [ht.2.2.2.1 j i hj hi e]; exact k2 Q q
  · obtain ⟨r, z', k1, k2⟩ := h2
    exact ⟨r, z', k1, fun Q q => ⟨fun j hj e => absurd ⟨j, hj, e⟩ a, fun _ => k2 Q q⟩⟩
theorem zok.N (h : zok c z) (hc : c ≤ 64) : zN z ≤ 1920 := by have := h.2.1; omega
theorem zok.zt (h : zok c z) {q : Nat} {t : tr_} (hq : q < 8) (ht : tr_n t = 0 ∨ tr_ok (zN z) t) : zok c (z_t z q t) := by
  refine ⟨fun p hp => ?_, h.2⟩
  show tr_n (if p = q then t else z.1 p) = 0 ∨ tr_ok (zN z) (if p = q then t else z.1 p)
  by_cases e : p = q
  · rw [if_pos e]; exact ht
  · rw [if_neg e]; exact h.1 p hp
theorem tot_size (h : zok c z) (p : Int32) : sp_tot c (sp_size p z) := tot_tree (K := fun q Q => Q (nI (tr_n (zt z q))) z) h (fun _ _ _ => tot_1 h.up)
theorem tot_letter (h : zok c z) (i : Int32) : sp_tot c (sp_letter i z) := tot_ix (K := fun j Q => Q (nI ((zw z).getD j 0)) z) (by have := h.2.2.2.2.1; omega) (fun _ _ => tot_1 h.up) (tot_1 h.up)
theorem tot_copy (h : zok c z) (p q : Int32) : sp_tot c (sp_copy p q z) :=
  tot_tree (K := fun p' Q => sp_pl q (fun q' => Q (nI (tr_n (zt z p'))) (z_t z q' (zt z p'))) (sp_f z Q 1)) h (fun p' hp' n0 => tot_pl (K := fun q' Q => Q (nI (tr_n (zt z p'))) (z_t z q' (zt z p'))) (fun q' hq' _ => tot_1 (h.zt hq' (h.1 p' hp')).up) (tot_f h 1))
theorem tot_clear (h : zok c z) (p : Int32) : sp_tot c (sp_clear p z) :=
  tot_pl (K := fun q Q => (tr_n (zt z q) = 0 → Q 0 (z_t z q tr_0)) ∧ (tr_n (zt z q) ≠ 0 → Q 1 (z_t z q tr_0))) (fun q hq _ => tot_if (fun _ => tot_1 (h.zt hq (Or.inl rfl)).up) (fun _ => tot_1 (h.zt hq (Or.inl rfl)).up)) (tot_f h 1)
theorem zok.pr (h : zok c z) {a v : Nat} (hv : v ≤ 1000) : zok c (z_c z a v) := by
  refine ⟨h.1, h.2.1, h.2.2.1, h.2.2.2.1, h.2.2.2.2.1, h.2.2.2.2.2.1, fun b hb => ?_, h.2.2.2.2.2.2.2⟩
  show (if b = a then v else zc z b) ≤ 1000
  by_cases e : b = a
  · rw [if_pos e]; exact hv
  · rw [if_neg e]; exact h.2.2.2.2.2.2.1 b hb
theorem tot_price (h : zok c z) (a v : Int32) : sp_tot c (sp_price a v z) :=
  tot_ix (K := fun i Q => sp_ix v 1001 (fun w => Q (nI (zc z i)) (z_c z i w)) (sp_f z Q 1)) (by decide) (fun i _ => tot_ix (K := fun w Q => Q (nI (zc z i)) (z_c z i w)) (by decide) (fun w hw => tot_1 (h.pr (by omega)).up) (tot_f h 1)) (tot_f h 1)
theorem tot_2 {w : Int32} {S T U : zP → Prop} (h1 : sp_tot c S) (h2 : sp_tot c T) (h3 : sp_tot c U) : sp_tot c (fun Q => (w = 0 → S Q) ∧ (w = 1 → T Q) ∧ (w ≠ 0 → w ≠ 1 → U Q)) := by
  by_cases a : w = 0
  · obtain ⟨r, z', k1, k2⟩ := h1
    exact ⟨r, z', k1, fun Q q => ⟨fun _ => k2 Q q, fun b => absurd (a.symm.trans b) (by decide), fun b => absurd a b⟩⟩
  · by_cases b : w = 1
    · obtain ⟨r, z', k1, k2⟩ := h2
      exact ⟨r, z', k1, fun Q q => ⟨fun y => absurd y a, fun _ => k2 Q q, fun _ y => absurd b y⟩⟩
    · obtain ⟨r, z', k1, k2⟩ := h3
      exact ⟨r, z', k1, fun Q q => ⟨fun y => absurd y a, fun y => absurd y b, fun _ _ => k2 Q q⟩⟩
theorem tot_3 {w : Int32} {S T U V : zP → Prop} (h1 : sp_tot c S) (h2 : sp_tot c T) (h3 : sp_tot c U) (h4 : sp_tot c V) : sp_tot c (fun Q => (w = 0 → S Q) ∧ (w = 1 → T Q) ∧ (w = 2 → U Q) ∧ (w ≠ 0 → w ≠ 1 → w ≠ 2 → V Q)) := by
  by_cases a : w = 0
  · obtain ⟨r, z', k1, k2⟩ := h1
    exact ⟨r, z', k1, fun Q q => ⟨fun _ => k2 Q q, fun b => absurd (a.symm.trans b) (by decide), fun b => absurd (a.symm.trans b) (by decide), fun b => absurd a b⟩⟩
  · by_cases b : w = 1
    · obtain ⟨r, z', k1, k2⟩ := h2
      exact ⟨r, z', k1, fun Q q => ⟨fun y => absurd y a, fun _ => k2 Q q, fun y => absurd (b.symm.trans y) (by decide), fun _ y => absurd b y⟩⟩
    · by_cases d : w = 2
      · obtain ⟨r, z', k1, k2⟩ := h3
        exact ⟨r, z', k1, fun Q q => ⟨fun y => absurd y a, fun y => absurd y b, fun _ => k2 Q q, fun _ _ y => absurd d y⟩⟩
      · obtain ⟨r, z', k1, k2⟩ := h4
        exact ⟨r, z', k1, fun Q q => ⟨fun y => absurd y a, fun y => absurd y b, fun y => absurd y d, fun _ _ _ => k2 Q q⟩⟩
theorem tot_pair (h : zok c z) (i w : Int32) : sp_tot c (sp_pair i w z) :=
  tot_ix (K := fun j Q => (w = 0 → Q (nI ((zq z).getD j (0, 0)).1) z) ∧ (w = 1 → Q (nI ((zq z).getD j (0, 0)).2) z) ∧ (w ≠ 0 → w ≠ 1 → sp_f z Q 1)) (by have := h.2.2.2.2.2.2.2.1; omega) (fun j _ => tot_2 (tot_1 h.up) (tot_1 h.up) (tot_f h 1)) (tot_f h 6)
theorem tot_acts (h : zok c z) : sp_tot c (sp_acts z) := tot_1 h.up
theorem tot_act (h : zok c z) (i w : Int32) : sp_tot c (sp_act i w z) :=
  tot_ix (K := fun j Q => (w = 0 → Q (nI ((za z).getD j (0, 0, 0)).1) z) ∧ (w = 1 → Q (nI ((za z).getD j (0, 0, 0)).2.1) z) ∧ (w = 2 → Q (nI ((za z).getD j (0, 0, 0)).2.2) z) ∧ (w ≠ 0 → w ≠ 1 → w ≠ 2 → sp_f z Q 1)) (by have := h.2.2.2.2.2.2.2.2.1; omega) (fun j _ => tot_3 (tot_1 h.up) (tot_1 h.up) (tot_1 h.up) (tot_f h 1)) (tot_f h 6)
theorem tot_like (h : zok c z) : sp_tot c (sp_like z) := tot_if (fun _ => tot_f h 6) (fun _ => tot_1 h.up)
theorem tot_merged (h : zok c z) : sp_tot c (sp_merged z) := tot_1 h.up
theorem tot_clash (h : zok c z) (i w : Int32) : sp_tot c (sp_clash i w z) :=
  tot_ix (K := fun j Q => (w = 0 → Q ((zx z).getD j (0, 0)).1 z) ∧ (w = 1 → Q (nI ((zx z).getD j (0, 0)).2) z) ∧ (w ≠ 0 → w ≠ 1 → sp_f z Q 1)) (by have := h.2.2.2.2.2.2.2.2.2.2.1; omega) (fun j _ => tot_2 (tot_1 h.up) (tot_1 h.up) (tot_f h 1)) (tot_f h 6)
theorem tot_found (h : zok c z) (x : Int32) : sp_tot c (sp_found x z) := by
  by_cases a : ∃ f : Nat, ((1 ≤ f ∧ f ≤ 7) ∨ f = 9) ∧ x = -nI f
  · obtain ⟨f, hf, rfl⟩ := a
    refine ⟨zf z f, z, h.up, fun Q q => ⟨fun f' hf' e => ?_, fun b => absurd rfl (b f hf)⟩⟩
    have e2 : nI f = nI f' := by
      have := congrArg (fun y : Int32 => -y) e
      simp only [Int32.neg_neg] at this
      exact this
    rw [nI_eq (by omega) (by omega)] at e2
    rw [← e2]; exact q
  · exact ⟨-nI 1, z_f z 1, h.up, fun Q q => ⟨fun f hf e => absurd ⟨f, hf, e⟩ a, fun _ => q⟩⟩
theorem tot_node (h : zok c z) (p i w : Int32) : sp_tot c (sp_node p i w z) :=
  tot_tree (K := fun q Q => sp_ix i (tr_n (zt z q)) (fun j => sp_ix w 9 (fun v => Q (nd_val (zt z q) j v) z) (sp_f z Q 1)) (sp_f z Q 1)) h (fun q hq n0 => tot_ix (K := fun j Q => sp_ix w 9 (fun v => Q (nd_val (zt z q) j v) z) (sp_f z Q 1)) (by have := (h.t hq n0).2.1; omega) (fun j _ => tot_ix (K := fun v Q => Q (nd_val (zt z q) j v) z) (by decide) (fun _ _ => tot_1 h.up) (tot_f h 1)) (tot_f h 1))
theorem bts_mem (w : Int64) : ∀ m, ∀ x ∈ bts w m, x < 256 := by
  intro m
  induction m with
  | zero => intro x hx; exact absurd hx (by simp [bts])
  | succ m ih =>
    intro x hx
    have hx : x ∈ bts w m ++ [bt_ w m] := hx
    rw [List.mem_append, List.mem_singleton] at hx
    rcases hx with hx | hx
    · exact ih x hx
    · rw [hx]; exact bt_lt w m
theorem zok.p (h : zok c z) {a : List Nat} (h1 : a.length ≤ 400) (h2 : ∀ x ∈ a, x < 256) : zok c (z_p z a) := ⟨h.1, h.2.1, h1, h2, h.2.2.2.2⟩
theorem tot_feed (h : zok c z) (w : Int64) (n : Int32) : sp_tot c (sp_feed w n z) := by
  by_cases a : n < 1 ∨ 8 < n
  · refine ⟨-nI 1, z_f z 1, h.up, fun Q q => ⟨fun m m1 m2 e => ?_, fun _ => q⟩⟩
    subst e
    exfalso
    rcases a with a | a
    · have a : nI m < nI 1 := a
      rw [nI_ltI (by omega) (by omega)] at a; omega
    · have a : nI 8 < nI m := a
      rw [nI_ltI (by omega) (by omega)] at a; omega
  · have a1 : ¬ n < 1 := fun y => a (Or.inl y)
    have a2 : ¬ 8 < n := fun y => a (Or.inr y)
    obtain ⟨m, m2, rfl⟩ := nI_of2 (M := 8) (n := 8) (by decide) (fun y => a1 (Int32.lt_trans y (by decide))) (Int32.not_lt.mp a2)
    have m1 : 1 ≤ m := by
      have a1 : ¬ nI m < nI 1 := a1
      rw [nI_ltI (by omega) (by omega)] at a1; omega
    have base : sp_tot c (fun Q => (400 < (zp z).length + m → sp_f z Q 5) ∧ (¬ 400 < (zp z).length + m → Q (nI ((zp z).length + m)) (z_p z (zp z ++ bts w m)))) := tot_if (fun _ => tot_f h 5) (fun y => tot_1 (h.p (by rw [List.length_append, bts_len]; omega) (fun x hx => by
      rw [List.mem_append] at hx
      rcases hx with hx | hx
      · exact h.2.2.2.1 x hx
      · exact bts_mem w m x hx)).up)
    obtain ⟨r, z', k1, k2⟩ := base
    refine ⟨r, z', k1, fun Q q => ⟨fun m' q1 q2 e => ?_, fun b => absurd b a⟩⟩
    rw [nI_eq (by omega) (by omega)] at e
    subst e
    have := k2 Q q
    exact ⟨this.1, fun y => this.2 (by omega)⟩
end TOT
