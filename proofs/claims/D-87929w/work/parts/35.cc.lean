/-! a branch is copied -/
def rw_dn (c : Nat) (r : rw_) : rw_ := (rw_a r, rw_k r, rw_d r - c, rw_l r, rw_t r)
/-- the rows from i to less than e, as a tree -/
def tr_pre (t : tr_) (i e : Nat) : tr_ := (e - i, fun k => rw_dn (tr_d t i) (tr_r t (i + k)))
theorem tr_pre_s {t : tr_} {i k : Nat} (h : dl_ok (tr_d t) (tr_n t)) (hi : i < tr_n t) (hk : k < (dl_cl (tr_d t) (tr_n t) i).length) :
    tr_n (tr_pre t i (dl_at (tr_d t) (tr_n t) i (k + 1))) = tr_n (tr_gr (tr_pre t i (dl_at (tr_d t) (tr_n t) i k)) (tr_pre t (dl_at (tr_d t) (tr_n t) i k) (dl_en (tr_d t) (tr_n t) (dl_at (tr_d t) (tr_n t) i k)))) ∧
    ∀ x, x < tr_n (tr_gr (tr_pre t i (dl_at (tr_d t) (tr_n t) i k)) (tr_pre t (dl_at (tr_d t) (tr_n t) i k) (dl_en (tr_d t) (tr_n t) (dl_at (tr_d t) (tr_n t) i k)))) →
      tr_r (tr_pre t i (dl_at (tr_d t) (tr_n t) i (k + 1))) x = tr_r (tr_gr (tr_pre t i (dl_at (tr_d t) (tr_n t) i k)) (tr_pre t (dl_at (tr_d t) (tr_n t) i k) (dl_en (tr_d t) (tr_n t) (dl_at (tr_d t) (tr_n t) i k)))) x := by
  obtain ⟨a1, a2, a3⟩ := dl_at_in h hi hk
  rw [dl_at_s h hi hk]
  generalize dl_at (tr_d t) (tr_n t) i k = a at a1 a2 a3
  have hin := (dl_en_spec (d := tr_d t) hi).2.1
  obtain ⟨b1, b2, b3, b4⟩ := dl_en_spec (d := tr_d t) (i := a) (n := tr_n t) (by omega)
  refine ⟨?_, fun x hx => ?_⟩
  · show dl_en (tr_d t) (tr_n t) a - i = (a - i) + (dl_en (tr_d t) (tr_n t) a - a)
    omega
  · have hx : x < (a - i) + (dl_en (tr_d t) (tr_n t) a - a) := hx
    show rw_dn (tr_d t i) (tr_r t (i + x)) = if x < a - i then rw_dn (tr_d t i) (tr_r t (i + x)) else rw_up (rw_dn (tr_d t a) (tr_r t (a + (x - (a - i)))))
    by_cases c : x < a - i
    · rw [if_pos c]
    · rw [if_neg c, show a + (x - (a - i)) = i + x by omega]
      have hd : tr_d t i + 1 ≤ tr_d t (i + x) := by
        by_cases c2 : i + x = a
        · rw [c2]; omega
        · have := b3 (i + x) (by omega) (by omega); omega
      show (_, _, rw_d (tr_r t (i + x)) - tr_d t i, _, _) = (_, _, rw_d (tr_r t (i + x)) - tr_d t a + 1, _, _)
      have : rw_d (tr_r t (i + x)) - tr_d t i = rw_d (tr_r t (i + x)) - tr_d t a + 1 := by
        have : rw_d (tr_r t (i + x)) = tr_d t (i + x) := rfl
        omega
      rw [this]
      rfl
theorem tr_pre_0 {t : tr_} {i : Nat} : dl_ok (tr_d (tr_pre t i (i + 1))) (tr_n (tr_pre t i (i + 1))) := by
  show dl_ok _ (i + 1 - i)
  rw [Nat.add_sub_cancel_left]
  refine ⟨Nat.one_pos, ?_, fun j h0 hj => by omega⟩
  show rw_d (tr_r t (i + 0)) - tr_d t i = 0
  rw [Nat.add_zero]
  exact Nat.sub_self _
theorem dl_cl_1 {d : Nat → Nat} (h : dl_ok d 1) : dl_cl d 1 0 = [] := by
  refine List.eq_nil_iff_forall_not_mem.mpr (fun k hk => ?_)
  have := (dl_cl_pa h (by omega)).mp hk
  omega
section CC
variable {θ : gc_T} {t : tr_} {A : Nat → Nat} {L : Nat → Prop}
theorem kc_copy2 (hθ : cTh θ) (h30 : tr_n t ≤ 40) : ∀ (m i : Nat) (σ : gc_S) (ow : Nat → Nat) (n cc ss : Nat) (R : Option Nat → gc_S → Prop), i < tr_n t → dl_en (tr_d t) (tr_n t) i - i ≤ m → cT θ σ ow L t A → oc σ ow → gc_n σ (gc_aD θ) = 0 →
    (∀ σ' ow' B, cx θ (fun _ => False) σ σ' → (∀ x, x ∈ gc_d σ → ow' x = ow x) → oc σ' ow' → cT θ σ' ow' L (tr_pre t i (dl_en (tr_d t) (tr_n t) i)) B → (∀ j, j < dl_en (tr_d t) (tr_n t) i - i → B j ∉ gc_d σ) → gc_R σ' 803 (B 0) = none → R (some (B 0)) σ') →
    10 + (dl_en (tr_d t) (tr_n t) i - i) ≤ n → 3 * (dl_en (tr_d t) (tr_n t) i - i) ≤ cc + 1 → 73 * (dl_en (tr_d t) (tr_n t) i - i) ≤ ss + 60 → gx_C (gc_O θ) (nX8_copy_2 n cc ss) [.ref (A i)] σ (gc_Pr R) := by
  intro m
  induction m with
  | zero =>
    intro i σ ow n cc ss R hi hm
    have := (dl_en_spec (d := tr_d t) hi).1
    omega
  | succ m ih =>
    intro i σ ow n cc ss R hi hm ht hoc h0 k hn hc hs
    obtain ⟨n, rfl⟩ : ∃ k, n = k + 1 := ⟨n - 1, by omega⟩
    have hlen := dl_len_lt ht.1 hi
    obtain ⟨e1, e2, e3, e4⟩ := dl_en_spec (d := tr_d t) hi
    have hni := ht.2.1 i hi
    obtain ⟨b1, g1, g2⟩ := hni.2.2.2.2.2.1
    obtain ⟨b2, g3, g4⟩ := hni.2.2.2.2.2.2.1
    have hkk : gc_k σ (A i) - 8 = rw_k (tr_r t i) := by rw [hni.2.2.1]; omega
    refine ec_X8_copy_2 (x0 := some (A i)) (fun K h => bc_X8_copy_2_0 h ⟨A i, rfl, hni.isN, kc_kind hni.isN ⟨hni.isN, hni.isN, hni.isN, 2, 13, ⟨by omega, by omega⟩, ?_⟩⟩)
    rw [hkk, hni.2.2.2.2.1, g1, g3]
    refine kc_made (r := rw_dn (tr_d t i) (tr_r t (i + 0))) hθ h0 hoc hni.2.2.2.1 g2 g4 rfl rfl (fun σ0 ow0 q hq hA x0 w0 oc0 hN hp => ?_)
    have key : ∀ (f k : Nat) (σ1 : gc_S) (ow1 : Nat → Nat) (B : Nat → Nat) (bc bs : Nat), k + f = (dl_cl (tr_d t) (tr_n t) i).length → cx θ (fun _ => False) σ σ1 → (∀ x, x ∈ gc_d σ → ow1 x = ow x) → oc σ1 ow1 → cT θ σ1 ow1 L (tr_pre t i (dl_at (tr_d t) (tr_n t) i k)) B → (∀ j, j < dl_at (tr_d t) (tr_n t) i k - i → B j ∉ gc_d σ) → gc_R σ1 803 (B 0) = none → B 0 = q →
        3 * (dl_en (tr_d t) (tr_n t) i - dl_at (tr_d t) (tr_n t) i k) ≤ bc → 73 * (dl_en (tr_d t) (tr_n t) i - dl_at (tr_d t) (tr_n t) i k) ≤ bs →
        gc_G θ K (nX8_copy_2 (n + 1) cc ss) (gc_Pr R) 22 [(0, va_rf (some (A i))), (1, va_rf (some q)), (2, .int (nI k))] [] σ1 bc bs := by
      intro f
      induction f with
      | zero =>
        intro k' σ1 ow1 B bc bs hk x1 w1 oc1 hB hfr hp0 hBq hbc hbs
        have ht1 := ht.cx hθ x1 (fun _ z => z.elim) w1 (fun _ z => z)
        have hni1 := ht1.2.1 i hi
        obtain ⟨c, g5, g6⟩ := hni1.2.2.2.2.2.2.2
        refine bc_X8_copy_2_22 h ⟨A i, rfl, hni1.isN, c, g5, g6.2.1, kc_size g6 ?_⟩
        rw [List.length_map]
        have hat := dl_at_len (d := tr_d t) (n := tr_n t) (i := i) (k := k') (by omega)
        refine pl_le (fun _ => ?_) (fun c => by omega)
        rw [hat] at hB hfr
        rw [← hBq]
        exact k σ1 ow1 B x1 w1 oc1 hB hfr hp0
      | succ f ihf =>
        intro k' σ1 ow1 B bc bs hk x1 w1 oc1 hB hfr hp0 hBq hbc hbs
        have hk' : k' < (dl_cl (tr_d t) (tr_n t) i).length := by omega
        have ht1 := ht.cx hθ x1 (fun _ z => z.elim) w1 (fun _ z => z)
        have hni1 := ht1.2.1 i hi
        obtain ⟨c, g5, g6⟩ := hni1.2.2.2.2.2.2.2
        obtain ⟨a1, a2, a3⟩ := dl_at_in ht.1 hi hk'
        have hs1 := dl_at_s ht.1 hi hk'
        have hen := dl_en_in (d := tr_d t) (n := tr_n t) (i := i) (j := dl_at (tr_d t) (tr_n t) i k') hi a1 a2
        obtain ⟨f1, f2, f3, f4⟩ := dl_en_spec (d := tr_d t) (n := tr_n t) (i := dl_at (tr_d t) (tr_n t) i k') (by omega)
        refine bc_X8_copy_2_22 h ⟨A i, rfl, hni1.isN, c, g5, g6.2.1, kc_size g6 ?_⟩
        rw [List.length_map]
        refine pl_le (fun c => by omega) (fun _ => ⟨hni1.isN, c, g5, g6.2.1, kc_get g6 k' (by rw [List.length_map]; omega) ?_⟩)
        have hget : ((dl_cl (tr_d t) (tr_n t) i).map A).getD k' 0 = A (dl_at (tr_d t) (tr_n t) i k') := by
          rw [List.getD_eq_getElem?_getD, List.getElem?_map, dl_at_get hk']
          rfl
        rw [hget]
        generalize hat : dl_at (tr_d t) (tr_n t) i k' = a at *
        have hNa := ht1.2.1 a (by omega)
        refine ⟨fun b hb => by obtain rfl := Option.some.inj hb; exact hNa.isN, 3 * (dl_en (tr_d t) (tr_n t) a - a) - 1, 73 * (dl_en (tr_d t) (tr_n t) a - a) - 60, ⟨by omega, by omega⟩, ?_⟩
        refine ih a σ1 ow1 n _ _ _ (by omega) (by omega) ht1 oc1 (by rw [(x1.2.2.1 _ (Or.inr hθ.2)).2]; exact h0) (fun σ2 ow2 C x2 w2 oc2 hC hfr2 hp2 => ?_) (by omega) (by omega) (by omega)
        have hB2 := hB.cx hθ x2 (fun _ z => z.elim) w2 (fun _ z => z)
        have sz : tr_n (tr_pre t i a) = a - i := rfl
        have szc : tr_n (tr_pre t a (dl_en (tr_d t) (tr_n t) a)) = dl_en (tr_d t) (tr_n t) a - a := rfl
        have hN0 := hB2.2.1 0 (by rw [sz]; omega)
        have hC0 := hC.2.1 0 (by rw [szc]; omega)
        rw [hBq] at hN0
        have hlB : (dl_cl (tr_d (tr_pre t i a)) (tr_n (tr_pre t i a)) 0).length ≤ 40 := by
          have q1 := dl_len_lt hB.1 (i := 0) (by rw [sz]; omega)
          have q2 := (dl_en_spec (d := tr_d (tr_pre t i a)) (n := tr_n (tr_pre t i a)) (i := 0) (by rw [sz]; omega)).2.1
          omega
        refine ⟨q, rfl, 1, 60, ⟨by omega, by omega⟩, hN0.isN, kc_nadd hθ oc2 hN0 hC0.isN (by rw [List.length_map]; exact hlB) (fun σ3 ow3 w3 oc3 x3 hN3 => ?_)⟩
        rw [nI_1]
        rw [← hBq] at hN3 x3
        have hBC : ∀ i' j', i' < tr_n (tr_pre t i a) → j' < tr_n (tr_pre t a (dl_en (tr_d t) (tr_n t) a)) → B i' ≠ C j' := fun i' j' q1 q2 z => hfr2 j' q2 (z ▸ (hB.2.1 i' q1).2.1)
        have hG := cT_gr hθ hB2 hC hBC w3 x3 hN3
        have hps := tr_pre_s ht.1 hi hk'
        have h03 : ∀ x, x ∈ gc_d σ → ow3 x = ow x := fun x hx => by rw [w3 x (x2.1 x (x1.1 x hx)), w2 x (x1.1 x hx), w1 x hx]
        have hC0d : C 0 ∉ gc_d σ := fun z => hfr2 0 (by omega) (x1.1 _ z)
        have hB0d : B 0 ∉ gc_d σ := hfr 0 (by omega)
        have x13 : cx θ (fun _ => False) σ σ3 := (x1.trans' x2).trans x3 (fun b hb => Or.inr (by
          have hb1 : b ∉ gc_d σ := fun z => by
            have e1 := hb.2.1
            rw [w2 b (x1.1 b z), w1 b z] at e1
            exact hB0d (e1 ▸ hoc b z)
          exact ⟨hb1, ((x1.trans' x2).2.1 b hb.1).resolve_left hb1⟩))
        have hC0A : gc_A θ (C 0) := ((x1.trans' x2).2.1 _ hC0.2.1).resolve_left hC0d
        rw [hBq] at hG
        refine ihf (k' + 1) (gc_sR σ3 803 (C 0) (some q)) ow3 (fun x => if x < tr_n (tr_pre t i a) then B x else C (x - tr_n (tr_pre t i a))) _ _ (by omega) (x13.trans (cx_sR σ3 803 (C 0) (some q)) (fun b hb => Or.inr (by rw [hb]; exact ⟨hC0d, hC0A⟩))) h03 (oc3.same rfl) ?_ ?_ ?_ ?_ ?_ ?_
        · rw [hs1]
          rw [hs1, hat] at hps
          exact hG.congr hps.1 hps.2 (fun _ _ => rfl)
        · rw [hs1]
          intro j hj
          show (if j < a - i then B j else C (j - (a - i))) ∉ gc_d σ
          by_cases cj : j < a - i
          · rw [if_pos cj]; exact hfr j cj
          · rw [if_neg cj]; exact fun z => hfr2 _ (by omega) (x1.1 _ z)
        · have e0 : (if 0 < tr_n (tr_pre t i a) then B 0 else C (0 - tr_n (tr_pre t i a))) = B 0 := if_pos (by rw [sz]; omega)
          rw [e0, rd_R_sR, if_neg (fun z => hBC 0 0 (by rw [sz]; omega) (by rw [szc]; omega) z.2)]
          have hs3 := (x1.trans' x2).2.2.2
          have c1 := x2.2.2.2 (B 0) (Or.inl (hB.2.1 0 (by rw [sz]; omega)).2.1) (fun z => z)
          have c2 := x3.2.2.2 (B 0) (Or.inl (hB2.2.1 0 (by rw [sz]; omega)).2.1) (fun z => by
            have k1 := z.2.2
            have k2 := (hB2.2.1 0 (by rw [sz]; omega)).isN.2
            omega)
          rw [c2.2.2.2.2.2, c1.2.2.2.2.2]
          exact hp0
        · have e0 : (if 0 < tr_n (tr_pre t i a) then B 0 else C (0 - tr_n (tr_pre t i a))) = B 0 := if_pos (by rw [sz]; omega)
          rw [e0]; exact hBq
        · rw [hs1]; omega
        · rw [hs1]; omega
    have h00 := dl_at_0 ht.1 hi
    refine key _ 0 σ0 ow0 (fun _ => q) _ _ (Nat.zero_add _) x0 w0 oc0 ?_ ?_ hp rfl ?_ ?_
    · rw [h00]
      have hok := tr_pre_0 (t := t) (i := i)
      have sz : tr_n (tr_pre t i (i + 1)) = 1 := by show i + 1 - i = 1; omega
      refine ⟨hok, fun j hj => ?_, fun j j0 hj => by omega, fun j j' hj hj' _ => by omega⟩
      rw [sz] at hj hok
      have : j = 0 := by omega
      subst this
      rw [sz, dl_cl_1 hok]
      exact hN
    · rw [h00]
      intro j _
      exact hq
    · rw [h00]; omega
    · rw [h00]; omega
end CC
