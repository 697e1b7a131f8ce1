/-! depth rows: rows that agree; a tree gets a tree as its last child -/
theorem dl_ok.congr {d e : Nat → Nat} {n : Nat} (h : dl_ok d n) (k : ∀ i, i < n → d i = e i) : dl_ok e n :=
  ⟨h.1, by rw [← k 0 h.1]; exact h.2.1, fun j h0 hj => by rw [← k j hj, ← k (j - 1) (by omega)]; exact h.2.2 j h0 hj⟩
theorem dl_en_congr {d e : Nat → Nat} {n i : Nat} (hi : i < n) (k : ∀ i, i < n → d i = e i) : dl_en e n i = dl_en d n i := by
  obtain ⟨h1, h2, h3, h4⟩ := dl_en_spec (d := d) hi
  refine dl_en_uniq hi h1 h2 (fun j j1 j2 => ?_) (fun c => ?_)
  · rw [← k j (by omega), ← k i hi]; exact h3 j j1 j2
  · rw [← k _ c, ← k i hi]; exact h4 c
theorem dl_pa_congr {d e : Nat → Nat} {n j : Nat} (h : dl_ok d n) (h0 : 0 < j) (hj : j < n) (k : ∀ i, i < n → d i = e i) : dl_pa e j = dl_pa d j := by
  obtain ⟨h1, h2, h3⟩ := dl_pa_spec h h0 hj
  refine dl_pa_uniq (h.congr k) h0 hj h1 ?_ (fun i i1 i2 => ?_)
  · rw [← k j hj, ← k _ (by omega)]; omega
  · rw [← k i (by omega), ← k j hj]; exact h3 i i1 i2
theorem dl_cl_congr {d e : Nat → Nat} {n i : Nat} (h : dl_ok d n) (hi : i < n) (k : ∀ i, i < n → d i = e i) : dl_cl e n i = dl_cl d n i := by
  have h1 := dl_cl_spec h hi
  have h2 := dl_cl_spec (h.congr k) hi
  refine dl_uniq h2.2 h1.2 (fun x => ?_)
  rw [h1.1 x, h2.1 x, dl_en_congr hi k]
  refine ⟨fun z => ⟨z.1, z.2.1, ?_⟩, fun z => ⟨z.1, z.2.1, ?_⟩⟩
  · have := (dl_en_spec (d := d) hi).2.1
    rw [k x (by omega), k i hi]; exact z.2.2
  · have := (dl_en_spec (d := d) hi).2.1
    rw [← k x (by omega), ← k i hi]; exact z.2.2
/-- the second row behind the first, one deeper -/
def dg_f (d : Nat → Nat) (n : Nat) (e : Nat → Nat) (k : Nat) : Nat := if k < n then d k else e (k - n) + 1
theorem dg_lo {d e : Nat → Nat} {n k : Nat} (h : k < n) : dg_f d n e k = d k := if_pos h
theorem dg_hi {d e : Nat → Nat} {n j : Nat} : dg_f d n e (n + j) = e j + 1 := by
  unfold dg_f
  rw [if_neg (by omega), Nat.add_sub_cancel_left]
theorem dg_hi' {d e : Nat → Nat} {n k : Nat} (h : n ≤ k) : dg_f d n e k = e (k - n) + 1 := if_neg (by omega)
section DG
variable {d e : Nat → Nat} {n m : Nat}
theorem dg_ok (hd : dl_ok d n) (he : dl_ok e m) : dl_ok (dg_f d n e) (n + m) := by
  refine ⟨by have := hd.1; omega, by rw [dg_lo hd.1]; exact hd.2.1, fun j h0 hj => ?_⟩
  by_cases c : j < n
  · rw [dg_lo c, dg_lo (by omega)]; exact hd.2.2 j h0 c
  · rw [dg_hi' (by omega)]
    by_cases c2 : j = n
    · rw [dg_lo (by omega), show j - n = 0 by omega, he.2.1]; omega
    · rw [dg_hi' (by omega)]
      have := he.2.2 (j - n) (by omega) (by omega)
      rw [show j - 1 - n = j - n - 1 by omega]
      omega
theorem dg_pa1 (hd : dl_ok d n) (he : dl_ok e m) {j : Nat} (h0 : 0 < j) (hj : j < n) : dl_pa (dg_f d n e) j = dl_pa d j := by
  obtain ⟨h1, h2, h3⟩ := dl_pa_spec hd h0 hj
  refine dl_pa_uniq (dg_ok hd he) h0 (by omega) h1 ?_ (fun i i1 i2 => ?_)
  · rw [dg_lo hj, dg_lo (by omega)]; omega
  · rw [dg_lo hj, dg_lo (by omega)]; exact h3 i i1 i2
theorem dg_pan (hd : dl_ok d n) (he : dl_ok e m) : dl_pa (dg_f d n e) n = 0 := by
  have := hd.1; have := he.1
  refine dl_pa_uniq (dg_ok hd he) hd.1 (by omega) hd.1 ?_ (fun i i1 i2 => ?_)
  · rw [dg_lo hd.1, hd.2.1, dg_hi' (Nat.le_refl _)]; omega
  · rw [dg_hi' (Nat.le_refl _), Nat.sub_self, he.2.1]
    by_cases c : i < n
    · rw [dg_lo c]; exact (hd.2.2 i i1 c).1
    · rw [dg_hi' (by omega)]; omega
theorem dg_pa2 (hd : dl_ok d n) (he : dl_ok e m) {j : Nat} (h0 : 0 < j) (hj : j < m) : dl_pa (dg_f d n e) (n + j) = n + dl_pa e j := by
  obtain ⟨h1, h2, h3⟩ := dl_pa_spec he h0 hj
  refine dl_pa_uniq (dg_ok hd he) (by omega) (by omega) (by omega) ?_ (fun i i1 i2 => ?_)
  · rw [dg_hi, dg_hi]; omega
  · rw [dg_hi, dg_hi' (by omega)]
    have := h3 (i - n) (by omega) (by omega)
    omega
theorem dg_cl0 (hd : dl_ok d n) (he : dl_ok e m) : dl_cl (dg_f d n e) (n + m) 0 = dl_cl d n 0 ++ [n] := by
  have h0 := hd.1; have hm := he.1
  have hf := dg_ok hd he
  have key : ∀ k, k ∈ dl_cl d n 0 ↔ _ := fun k => dl_cl_pa (k := k) hd hd.1
  refine dl_uniq (dl_cl_spec hf (by omega)).2 ?_ (fun k => ?_)
  · rw [List.pairwise_append]
    refine ⟨(dl_cl_spec hd hd.1).2, List.pairwise_singleton _ _, fun a ha b hb => ?_⟩
    rw [List.mem_singleton] at hb
    rw [hb]
    exact ((key a).mp ha).2.1
  · rw [dl_cl_pa hf (by omega), List.mem_append, key, List.mem_singleton]
    constructor
    · intro ⟨q1, q2, q3⟩
      by_cases c : k < n
      · exact Or.inl ⟨q1, c, by rw [← dg_pa1 hd he q1 c]; exact q3⟩
      · by_cases c2 : k = n
        · exact Or.inr c2
        · have := dg_pa2 hd he (j := k - n) (by omega) (by omega)
          rw [show n + (k - n) = k by omega, q3] at this
          omega
    · rintro (q | q)
      · exact ⟨q.1, by omega, by rw [dg_pa1 hd he q.1 q.2.1]; exact q.2.2⟩
      · rw [q]; exact ⟨hd.1, by omega, dg_pan hd he⟩
theorem dg_cl1 (hd : dl_ok d n) (he : dl_ok e m) {i : Nat} (h0 : 0 < i) (hi : i < n) : dl_cl (dg_f d n e) (n + m) i = dl_cl d n i := by
  have hm := he.1
  have hf := dg_ok hd he
  refine dl_uniq (dl_cl_spec hf (by omega)).2 (dl_cl_spec hd hi).2 (fun k => ?_)
  rw [dl_cl_pa hf (by omega), dl_cl_pa hd hi]
  constructor
  · intro ⟨q1, q2, q3⟩
    by_cases c : k < n
    · exact ⟨q1, c, by rw [← dg_pa1 hd he q1 c]; exact q3⟩
    · by_cases c2 : k = n
      · rw [c2, dg_pan hd he] at q3; omega
      · have := dg_pa2 hd he (j := k - n) (by omega) (by omega)
        rw [show n + (k - n) = k by omega, q3] at this
        omega
  · intro ⟨q1, q2, q3⟩
    exact ⟨q1, by omega, by rw [dg_pa1 hd he q1 q2]; exact q3⟩
theorem dg_cl2 (hd : dl_ok d n) (he : dl_ok e m) {i : Nat} (hi : i < m) : dl_cl (dg_f d n e) (n + m) (n + i) = (dl_cl e m i).map (n + ·) := by
  have h0 := hd.1
  have hf := dg_ok hd he
  refine dl_uniq (dl_cl_spec hf (by omega)).2 ?_ (fun k => ?_)
  · rw [List.pairwise_map]
    exact (dl_cl_spec he hi).2.imp (fun h => by omega)
  · rw [dl_cl_pa hf (by omega), List.mem_map]
    constructor
    · intro ⟨q1, q2, q3⟩
      by_cases c : k < n
      · have := (dl_pa_spec hf q1 q2).1
        omega
      · by_cases c2 : k = n
        · rw [c2, dg_pan hd he] at q3; omega
        · have := dg_pa2 hd he (j := k - n) (by omega) (by omega)
          rw [show n + (k - n) = k by omega, q3] at this
          exact ⟨k - n, (dl_cl_pa he hi).mpr ⟨by omega, by omega, by omega⟩, by omega⟩
    · rintro ⟨j, hj, rfl⟩
      obtain ⟨j1, j2, j3⟩ := (dl_cl_pa he hi).mp hj
      exact ⟨by omega, by omega, by rw [dg_pa2 hd he j1 j2, j3]⟩
end DG
/-- one deeper -/
def rw_up (r : rw_) : rw_ := (rw_a r, rw_k r, rw_d r + 1, rw_l r, rw_t r)
def tr_gr (t s : tr_) : tr_ := (tr_n t + tr_n s, fun k => if k < tr_n t then tr_r t k else rw_up (tr_r s (k - tr_n t)))
theorem tr_gr_d (t s : tr_) (k : Nat) : tr_d (tr_gr t s) k = dg_f (tr_d t) (tr_n t) (tr_d s) k := by
  show rw_d (if k < tr_n t then tr_r t k else rw_up (tr_r s (k - tr_n t))) = _
  unfold dg_f
  split <;> rfl
/-! the component's trees -/
def cT (θ : gc_T) (σ : gc_S) (ow : Nat → Nat) (L : Nat → Prop) (t : tr_) (A : Nat → Nat) : Prop := dl_ok (tr_d t) (tr_n t) ∧ (∀ i, i < tr_n t → cN θ σ ow L (A i) (tr_r t i) ((dl_cl (tr_d t) (tr_n t) i).map A)) ∧ (∀ i, 0 < i → i < tr_n t → gc_R σ 803 (A i) = some (A (dl_pa (tr_d t) i))) ∧ ∀ i j, i < tr_n t → j < tr_n t → A i = A j → i = j
theorem ls_map_congr {l : List Nat} {f g : Nat → Nat} (h : ∀ x ∈ l, f x = g x) : l.map f = l.map g := List.map_congr_left h
theorem cT.cx {θ : gc_T} {S : Nat → Prop} {σ σ' : gc_S} {ow ow' : Nat → Nat} {L L' : Nat → Prop} {t : tr_} {A : Nat → Nat} (h : cT θ σ ow L t A) (hθ : cTh θ) (k : cx θ S σ σ') (hS : ∀ q, S q → (∀ i, i < tr_n t → ow q ≠ A i) ∧ (gc_k σ q = 15 → ¬ L q)) (hw : ∀ q, q ∈ gc_d σ → ow' q = ow q) (hL : ∀ q, L q → L' q) : cT θ σ' ow' L' t A := by
  refine ⟨h.1, fun i hi => (h.2.1 i hi).cx hθ k (fun q z => ⟨(hS q z).1 i hi, (hS q z).2⟩) (fun q hq e => by rw [hw q hq]; exact e) hL, fun i h0 hi => ?_, h.2.2.2⟩
  have hn := h.2.1 i hi
  have hs := k.2.2.2 (A i) (Or.inl hn.2.1) (fun z => (hS _ z).1 i hi hn.1)
  rw [hs.2.2.2.2.2]
  exact h.2.2.1 i h0 hi
theorem cT.congr {θ : gc_T} {σ : gc_S} {ow : Nat → Nat} {L : Nat → Prop} {t t' : tr_} {A A' : Nat → Nat} (h : cT θ σ ow L t A) (hn : tr_n t' = tr_n t) (hr : ∀ i, i < tr_n t → tr_r t' i = tr_r t i) (hA : ∀ i, i < tr_n t → A' i = A i) : cT θ σ ow L t' A' := by
  have hd : ∀ i, i < tr_n t → tr_d t i = tr_d t' i := fun i hi => by show rw_d (tr_r t i) = rw_d (tr_r t' i); rw [hr i hi]
  unfold cT
  rw [hn]
  refine ⟨h.1.congr hd, fun i hi => ?_, fun i h0 hi => ?_, fun i j hi hj e => h.2.2.2 i j hi hj (by rw [← hA i hi, ← hA j hj]; exact e)⟩
  · rw [dl_cl_congr h.1 hi hd, hr i hi, hA i hi, ls_map_congr (f := A') (g := A) (fun x hx => hA x ((dl_cl_pa h.1 hi).mp hx).2.1)]
    exact h.2.1 i hi
  · rw [hA i hi, dl_pa_congr h.1 h0 hi hd, hA _ (by have := (dl_pa_spec h.1 h0 hi).1; omega)]
    exact h.2.2.1 i h0 hi
/-- a tree gets a tree as its last child -/
theorem cT_gr {θ : gc_T} {σ σ1 : gc_S} {ow ow' : Nat → Nat} {L : Nat → Prop} {t s : tr_} {A B : Nat → Nat} (hθ : cTh θ) (ht : cT θ σ ow L t A) (hs : cT θ σ ow L s B) (hAB : ∀ i j, i < tr_n t → j < tr_n s → A i ≠ B j) (hw : ∀ x, x ∈ gc_d σ → ow' x = ow x) (hx : cx θ (cLs σ ow (A 0)) σ σ1) (h0 : cN θ σ1 ow' L (A 0) (tr_r t 0) ((dl_cl (tr_d t) (tr_n t) 0).map A ++ [B 0])) :
    cT θ (gc_sR σ1 803 (B 0) (some (A 0))) ow' L (tr_gr t s) (fun k => if k < tr_n t then A k else B (k - tr_n t)) := by
  have n0 := ht.1.1; have m0 := hs.1.1
  have hf := dg_ok ht.1 hs.1
  have hd : ∀ i, i < tr_n t + tr_n s → dg_f (tr_d t) (tr_n t) (tr_d s) i = tr_d (tr_gr t s) i := fun i _ => (tr_gr_d t s i).symm
  have lo : ∀ i, i < tr_n t → (fun k => if k < tr_n t then A k else B (k - tr_n t)) i = A i := fun i hi => if_pos hi
  have hi' : ∀ j, (fun k => if k < tr_n t then A k else B (k - tr_n t)) (tr_n t + j) = B j := fun j => by
    show (if tr_n t + j < tr_n t then A (tr_n t + j) else B (tr_n t + j - tr_n t)) = B j
    rw [if_neg (by omega), Nat.add_sub_cancel_left]
  have fS : ∀ q, cLs σ ow (A 0) q → gc_k σ q = 15 → ¬ L q := fun q z y => by have := z.2.2; omega
  refine ⟨hf.congr hd, fun i hi => ?_, fun i i0 hi => ?_, fun i j hi hj e => ?_⟩
  · have hi2 : i < tr_n t + tr_n s := hi
    show cN θ _ ow' L _ _ (List.map _ (dl_cl (tr_d (tr_gr t s)) (tr_n t + tr_n s) i))
    rw [dl_cl_congr hf hi2 hd]
    by_cases c : i < tr_n t
    · have er : tr_r (tr_gr t s) i = tr_r t i := if_pos c
      rw [er, lo i c]
      by_cases c0 : i = 0
      · subst c0
        rw [dg_cl0 ht.1 hs.1, List.map_append, ls_map_congr (g := A) (fun x hx => lo x ((dl_cl_pa ht.1 n0).mp hx).2.1)]
        have eB : List.map (fun k => if k < tr_n t then A k else B (k - tr_n t)) [tr_n t] = [B 0] := by
          have := hi' 0
          rw [Nat.add_zero] at this
          show [_] = _
          rw [this]
        rw [eB]
        exact h0.s803
      · rw [dg_cl1 ht.1 hs.1 (by omega) c, ls_map_congr (g := A) (fun x hx => lo x ((dl_cl_pa ht.1 c).mp hx).2.1)]
        exact ((ht.2.1 i c).cx hθ hx (fun q z => ⟨by rw [z.2.1]; exact fun y => c0 (ht.2.2.2 0 i n0 c y).symm, fS q z⟩) (fun q hq e => by rw [hw q hq]; exact e) (fun _ z => z)).s803
    · obtain ⟨j, rfl⟩ : ∃ j, i = tr_n t + j := ⟨i - tr_n t, by omega⟩
      have hj : j < tr_n s := by omega
      have er : tr_r (tr_gr t s) (tr_n t + j) = rw_up (tr_r s j) := by
        show (if tr_n t + j < tr_n t then tr_r t (tr_n t + j) else rw_up (tr_r s (tr_n t + j - tr_n t))) = _
        rw [if_neg c, Nat.add_sub_cancel_left]
      have em : List.map ((fun k => if k < tr_n t then A k else B (k - tr_n t)) ∘ fun x => tr_n t + x) (dl_cl (tr_d s) (tr_n s) j) = List.map B (dl_cl (tr_d s) (tr_n s) j) := ls_map_congr (fun x _ => hi' x)
      rw [er, hi' j, dg_cl2 ht.1 hs.1 hj, List.map_map, em]
      exact ((hs.2.1 j hj).cx hθ hx (fun q z => ⟨by rw [z.2.1]; exact hAB 0 j n0 hj, fS q z⟩) (fun q hq e => by rw [hw q hq]; exact e) (fun _ z => z)).s803
  · have hi2 : i < tr_n t + tr_n s := hi
    show gc_R (gc_sR σ1 803 (B 0) (some (A 0))) 803 ((fun k => if k < tr_n t then A k else B (k - tr_n t)) i) = some ((fun k => if k < tr_n t then A k else B (k - tr_n t)) (dl_pa (tr_d (tr_gr t s)) i))
    rw [dl_pa_congr hf i0 hi2 hd, rd_R_sR]
    have old : ∀ a, gc_isN σ a → gc_R σ1 803 a = gc_R σ 803 a := fun a ha => (hx.2.2.2 a (Or.inl ha.1) (fun z => by have := z.2.2; have := ha.2; omega)).2.2.2.2.2 803
    by_cases c : i < tr_n t
    · rw [lo i c, if_neg (fun z => hAB i 0 c m0 z.2), dg_pa1 ht.1 hs.1 i0 c, lo _ (by have := (dl_pa_spec ht.1 i0 c).1; omega), old _ (ht.2.1 i c).isN]
      exact ht.2.2.1 i i0 c
    · obtain ⟨j, rfl⟩ : ∃ j, i = tr_n t + j := ⟨i - tr_n t, by omega⟩
      have hj : j < tr_n s := by omega
      rw [hi' j]
      by_cases c2 : j = 0
      · subst c2
        rw [if_pos ⟨rfl, rfl⟩, Nat.add_zero, dg_pan ht.1 hs.1, lo 0 n0]
      · rw [if_neg (fun z => c2 (hs.2.2.2 j 0 hj m0 z.2)), dg_pa2 ht.1 hs.1 (by omega) hj, hi', old _ (hs.2.1 j hj).isN]
        exact hs.2.2.1 j (by omega) hj
  · have hi2 : i < tr_n t + tr_n s := hi
    have hj2 : j < tr_n t + tr_n s := hj
    have e : (if i < tr_n t then A i else B (i - tr_n t)) = (if j < tr_n t then A j else B (j - tr_n t)) := e
    by_cases c : i < tr_n t
    · by_cases c2 : j < tr_n t
      · rw [if_pos c, if_pos c2] at e; exact ht.2.2.2 i j c c2 e
      · rw [if_pos c, if_neg c2] at e; exact absurd e (hAB i (j - tr_n t) c (by omega))
    · by_cases c2 : j < tr_n t
      · rw [if_neg c, if_pos c2] at e; exact absurd e.symm (hAB j (i - tr_n t) c2 (by omega))
      · rw [if_neg c, if_neg c2] at e
        have := hs.2.2.2 (i - tr_n t) (j - tr_n t) (by omega) (by omega) e
        omega
