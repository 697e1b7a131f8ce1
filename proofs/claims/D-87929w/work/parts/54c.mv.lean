/-! MOVE: trees, the specification -/
theorem tw1_mem {t : tr_} {x : Nat} (ho : dl_ok (tr_d t) (tr_n t)) (hx : x < tr_n t) : tr_tw1 t x ↔ ∃ y y', y ∈ dl_cl (tr_d t) (tr_n t) x ∧ y' ∈ dl_cl (tr_d t) (tr_n t) x ∧ y ≠ y' ∧ tr_l t y = tr_l t y' := by
  constructor
  · rintro ⟨j, k, h1, h2, h3⟩
    have hlt := dl_at_lt2 ho hx k h1 (by omega)
    exact ⟨_, _, dl_at_mem h2, dl_at_mem (k := j) (by omega), by omega, h3⟩
  · rintro ⟨y, y', h1, h2, h3, h4⟩
    obtain ⟨j, j1, rfl⟩ := dl_cl_at h1
    obtain ⟨k, k1, rfl⟩ := dl_cl_at h2
    rcases Nat.lt_trichotomy j k with c | c | c
    · exact ⟨j, k, c, k1, h4.symm⟩
    · exact absurd (by rw [c]) h3
    · exact ⟨k, j, c, j1, h4⟩
theorem dl_en_nil {d : Nat → Nat} {n i : Nat} (h : dl_ok d n) (hi : i < n) : dl_en d n i = i + 1 ↔ dl_cl d n i = [] := by
  constructor
  · intro e
    have := dl_len_lt h hi
    exact List.length_eq_zero_iff.mp (by omega)
  · intro e
    have h0 := dl_at_len (d := d) (n := n) (i := i) (k := 0) (by rw [e]; exact Nat.le_refl _)
    rw [dl_at_0 h hi] at h0
    exact h0.symm
section PM
variable {N : Nat} {t t' : tr_} {π : Nat → Nat} {w : Nat}
theorem tw_perm (hot : dl_ok (tr_d t) (tr_n t)) (hnt : ¬ tr_tw t) (ho : dl_ok (tr_d t') (tr_n t')) (hπ : ∀ k, k < tr_n t' → π k < tr_n t) (hj : ∀ j k, j < tr_n t' → k < tr_n t' → π j = π k → j = k) (hr : ∀ k, k < tr_n t' → rw_k (tr_r t' k) = rw_k (tr_r t (π k)) ∧ rw_l (tr_r t' k) = rw_l (tr_r t (π k))) (hw : ∀ k, k < tr_n t' → k ≠ w → ∀ y ∈ dl_cl (tr_d t') (tr_n t') k, π y ∈ dl_cl (tr_d t) (tr_n t) (π k)) (hwn : w < tr_n t') : tr_tw t' ↔ (tr_k t' w = 2 ∧ tr_tw1 t' w) := by
  constructor
  · rintro ⟨x, hx, hk, h⟩
    by_cases e : x = w
    · rw [← e]; exact ⟨hk, h⟩
    · refine absurd ⟨π x, hπ x hx, (hr x hx).1.symm.trans hk, ?_⟩ hnt
      obtain ⟨y, y', h1, h2, h3, h4⟩ := (tw1_mem ho hx).mp h
      have y1 := ((dl_cl_pa ho hx).mp h1).2.1
      have y2 := ((dl_cl_pa ho hx).mp h2).2.1
      refine (tw1_mem hot (hπ x hx)).mpr ⟨π y, π y', hw x hx e y h1, hw x hx e y' h2, fun u => h3 (hj y y' y1 y2 u), ?_⟩
      show rw_l (tr_r t (π y)) = rw_l (tr_r t (π y'))
      rw [← (hr y y1).2, ← (hr y' y2).2]
      exact h4
  · rintro ⟨hk, h⟩
    exact ⟨w, hwn, hk, h⟩
theorem tr_ok.perm (h : tr_ok N t) (ho : dl_ok (tr_d t') (tr_n t')) (hsm : tr_sm t') (hπ : ∀ k, k < tr_n t' → π k < tr_n t) (hj : ∀ j k, j < tr_n t' → k < tr_n t' → π j = π k → j = k) (hr : ∀ k, k < tr_n t' → rw_a (tr_r t' k) = rw_a (tr_r t (π k)) ∧ rw_k (tr_r t' k) = rw_k (tr_r t (π k)) ∧ rw_l (tr_r t' k) = rw_l (tr_r t (π k)) ∧ rw_t (tr_r t' k) = rw_t (tr_r t (π k))) (hw : ∀ k, k < tr_n t' → k ≠ w → ∀ y ∈ dl_cl (tr_d t') (tr_n t') k, π y ∈ dl_cl (tr_d t) (tr_n t) (π k)) (hk3 : tr_k t' w ≠ 3) (htw : ¬ tr_tw t') : tr_ok N t' := by
  refine ⟨ho, hsm.1, fun k hk => ?_, fun j k hj' hk e => ?_, fun k hk e => ?_, htw⟩
  · obtain ⟨e1, e2, e3, e4⟩ := hr k hk
    obtain ⟨r1, r2, r3, r4, r5, r6, r7, r8⟩ := h.2.2.1 (π k) (hπ k hk)
    refine ⟨by rw [e1]; exact r1, by rw [e2]; exact r2, hsm.2 k hk, by rw [e3]; exact r4, by rw [e3]; exact r5, by rw [e3]; exact r6, by rw [e4]; exact r7, by rw [e4]; exact r8⟩
  · refine hj j k hj' hk (h.2.2.2.1 _ _ (hπ j hj') (hπ k hk) ?_)
    show rw_a (tr_r t (π j)) = rw_a (tr_r t (π k))
    rw [← (hr j hj').1, ← (hr k hk).1]; exact e
  · rw [dl_en_nil ho hk]
    have hkw : k ≠ w := fun u => hk3 (by rw [← u]; exact e)
    have h3 : tr_k t (π k) = 3 := (hr k hk).2.1.symm.trans e
    have h4 := (dl_en_nil h.1 (hπ k hk)).mp (h.2.2.2.2.1 _ (hπ k hk) h3)
    refine List.eq_nil_iff_forall_not_mem.mpr (fun y hy => ?_)
    have := hw k hk hkw y hy
    rw [h4] at this
    exact absurd this List.not_mem_nil
end PM
def rw_sh (c : Nat) (r : rw_) : rw_ := (rw_a r, rw_k r, rw_d r + c, rw_l r, rw_t r)
def tr_ct (t : tr_) (i : Nat) : tr_ := (tr_n t - (dl_en (tr_d t) (tr_n t) i - i), fun k => if k < i then tr_r t k else tr_r t (k + (dl_en (tr_d t) (tr_n t) i - i)))
def tr_di (u : tr_) (w f : Nat) (s : tr_) : tr_ := (tr_n u + tr_n s, fun k => if k < f then tr_r u k else if k < f + tr_n s then rw_sh (tr_d u w + 1) (tr_r s (k - f)) else tr_r u (k - tr_n s))
theorem tr_ct_d {t : tr_} {i : Nat} : tr_d (tr_ct t i) = dc_d (tr_d t) (tr_n t) i := by
  funext k
  show rw_d (if k < i then _ else _) = _
  unfold dc_d
  by_cases c : k < i
  · rw [if_pos c, if_pos c]
  · rw [if_neg c, if_neg c]
theorem tr_di_d {u s : tr_} {w f : Nat} : tr_d (tr_di u w f s) = di_d (tr_d u) w f (tr_d s) (tr_n s) := by
  funext k
  show rw_d (if k < f then _ else if k < f + tr_n s then _ else _) = _
  unfold di_d
  by_cases c : k < f
  · rw [if_pos c, if_pos c]
  · rw [if_neg c, if_neg c]
    by_cases c2 : k < f + tr_n s
    · rw [if_pos c2, if_pos c2]; rfl
    · rw [if_neg c2, if_neg c2]
/-- where a node of the rest stands then -/
def mv_w (t : tr_) (i j : Nat) : Nat := if j < i then j else j - (dl_en (tr_d t) (tr_n t) i - i)
abbrev mv_f (t : tr_) (i j a : Nat) : Nat := dl_at (tr_d (tr_ct t i)) (tr_n (tr_ct t i)) (mv_w t i j) a
def mv_t (t : tr_) (i j a : Nat) : tr_ := tr_di (tr_ct t i) (mv_w t i j) (mv_f t i j a) (tr_pre t i (dl_en (tr_d t) (tr_n t) i))
def sp_move (p x y fr : Int32) (z : zz) (Q : zP) : Prop := sp_tree p z Q (fun q => sp_named (zt z q) x (fun i => (i = 0 → sp_f z Q 7) ∧ (¬ i = 0 → sp_named (zt z q) y (fun j => (tr_k (zt z q) j = 3 → sp_f z Q 3) ∧ (¬ tr_k (zt z q) j = 3 → ((i ≤ j ∧ j < dl_en (tr_d (zt z q)) (tr_n (zt z q)) i) → sp_f z Q 7) ∧ (¬ (i ≤ j ∧ j < dl_en (tr_d (zt z q)) (tr_n (zt z q)) i) → sp_ix fr ((dl_cl (tr_d (tr_ct (zt z q) i)) (tr_n (tr_ct (zt z q) i)) (mv_w (zt z q) i j)).length + 1)
  (fun a => (¬ tr_sm (mv_t (zt z q) i j a) → sp_f z Q 5) ∧ (tr_sm (mv_t (zt z q) i j a) → (tr_tw (mv_t (zt z q) i j a) → sp_f z Q 4) ∧ (¬ tr_tw (mv_t (zt z q) i j a) → Q (nI (dl_en (tr_d (zt z q)) (tr_n (zt z q)) i - i)) (z_t z q (mv_t (zt z q) i j a))))) (sp_f z Q 1)))) (sp_f z Q 6))) (sp_f z Q 6))
/-- which node stands there -/
def mv_un (i m f k : Nat) : Nat := if k < f then di_sh i m k else if k < f + m then i + (k - f) else di_sh i m (k - m)
theorem mv_un_sh {i m f x : Nat} : mv_un i m f (di_sh f m x) = di_sh i m x := by
  unfold mv_un
  by_cases c : x < f
  · rw [show di_sh f m x = x from if_pos c, if_pos c]
  · rw [show di_sh f m x = x + m from if_neg c, if_neg (by omega), if_neg (by omega), Nat.add_sub_cancel]
theorem mv_un_s {i m f x : Nat} (hx : x < m) : mv_un i m f (f + x) = i + x := by
  unfold mv_un
  rw [if_neg (by omega), if_pos (by omega), Nat.add_sub_cancel_left]
section MV
variable {t : tr_} {i j a : Nat}
theorem mv_wn (hi : i < tr_n t) (hj : j < tr_n t) (hij : ¬ (i ≤ j ∧ j < dl_en (tr_d t) (tr_n t) i)) : mv_w t i j < tr_n (tr_ct t i) ∧ di_sh i (dl_en (tr_d t) (tr_n t) i - i) (mv_w t i j) = j := by
  obtain ⟨e1, e2, _, _⟩ := dl_en_spec (d := tr_d t) hi
  show mv_w t i j < tr_n t - (dl_en (tr_d t) (tr_n t) i - i) ∧ _
  unfold mv_w di_sh
  by_cases c : j < i
  · rw [if_pos c, if_pos c]; exact ⟨by omega, rfl⟩
  · rw [if_neg c, if_neg (by omega)]; exact ⟨by omega, by omega⟩
/-- all that a moved branch needs -/
theorem mv_all (ho : dl_ok (tr_d t) (tr_n t)) (h0 : 0 < i) (hi : i < tr_n t) (hj : j < tr_n t) (hij : ¬ (i ≤ j ∧ j < dl_en (tr_d t) (tr_n t) i)) (ha : a ≤ (dl_cl (tr_d (tr_ct t i)) (tr_n (tr_ct t i)) (mv_w t i j)).length) :
    tr_n (mv_t t i j a) = tr_n t ∧ dl_ok (tr_d (mv_t t i j a)) (tr_n t) ∧ (mv_w t i j < mv_f t i j a ∧ mv_f t i j a ≤ tr_n (tr_ct t i)) ∧ (∀ x, x < dl_en (tr_d t) (tr_n t) i - i → dl_cl (tr_d (mv_t t i j a)) (tr_n t) (mv_f t i j a + x) = (dl_cl (ds_d (tr_d t) i) (dl_en (tr_d t) (tr_n t) i - i) x).map (mv_f t i j a + ·)) ∧
    (∀ x, x < tr_n (tr_ct t i) → x ≠ mv_w t i j → dl_cl (tr_d (mv_t t i j a)) (tr_n t) (di_sh (mv_f t i j a) (dl_en (tr_d t) (tr_n t) i - i) x) = (dl_cl (tr_d (tr_ct t i)) (tr_n (tr_ct t i)) x).map (di_sh (mv_f t i j a) (dl_en (tr_d t) (tr_n t) i - i))) ∧
    dl_cl (tr_d (mv_t t i j a)) (tr_n t) (mv_w t i j) = ls_ins ((dl_cl (tr_d (tr_ct t i)) (tr_n (tr_ct t i)) (mv_w t i j)).map (di_sh (mv_f t i j a) (dl_en (tr_d t) (tr_n t) i - i))) a (mv_f t i j a) := by
  obtain ⟨e1, e2, _, _⟩ := dl_en_spec (d := tr_d t) hi
  obtain ⟨w1, w2⟩ := mv_wn hi hj hij
  have hou : dl_ok (tr_d (tr_ct t i)) (tr_n (tr_ct t i)) := by rw [tr_ct_d]; exact dc_ok ho h0 hi
  have hos := ds_ok ho hi
  have hbd := dl_bd_at hou w1 a
  have hle := dl_at_le hou w1 (k := a)
  have hen := (dl_en_spec (d := tr_d (tr_ct t i)) w1).2.1
  have nn : tr_n (mv_t t i j a) = tr_n t := by
    show tr_n t - (dl_en (tr_d t) (tr_n t) i - i) + (dl_en (tr_d t) (tr_n t) i - i) = tr_n t
    omega
  have n2 : tr_n t = tr_n (tr_ct t i) + (dl_en (tr_d t) (tr_n t) i - i) := nn.symm
  have ed : tr_d (mv_t t i j a) = di_d (tr_d (tr_ct t i)) (mv_w t i j) (mv_f t i j a) (ds_d (tr_d t) i) (dl_en (tr_d t) (tr_n t) i - i) := tr_di_d
  refine ⟨nn, ?_, ⟨hle.1, Nat.le_trans hle.2 hen⟩, fun x hx => ?_, fun x hx hxw => ?_, ?_⟩
  · rw [ed, n2]
    have := di_ok hou w1 hbd hos
    rw [← n2] at this ⊢
    exact this
  · have := dj_s hou w1 hbd hos hx
    rw [ed, ← this, ← n2]
  · have := dj_x hou w1 hbd hos hx hxw
    rw [ed, ← this, ← n2]
  · have := dj_i hou w1 ha rfl hos
    rw [ed, ← this, ← n2]
theorem mv_rows (hi : i < tr_n t) {f : Nat} (hf : f ≤ tr_n (tr_ct t i)) {k : Nat} (hk : k < tr_n t) {w : Nat} : rw_a (tr_r (tr_di (tr_ct t i) w f (tr_pre t i (dl_en (tr_d t) (tr_n t) i))) k) = rw_a (tr_r t (mv_un i (dl_en (tr_d t) (tr_n t) i - i) f k)) ∧ rw_k (tr_r (tr_di (tr_ct t i) w f (tr_pre t i (dl_en (tr_d t) (tr_n t) i))) k) = rw_k (tr_r t (mv_un i (dl_en (tr_d t) (tr_n t) i - i) f k)) ∧ rw_l (tr_r (tr_di (tr_ct t i) w f (tr_pre t i (dl_en (tr_d t) (tr_n t) i))) k) = rw_l (tr_r t (mv_un i (dl_en (tr_d t) (tr_n t) i - i) f k)) ∧ rw_t (tr_r (tr_di (tr_ct t i) w f (tr_pre t i (dl_en (tr_d t) (tr_n t) i))) k) = rw_t (tr_r t (mv_un i (dl_en (tr_d t) (tr_n t) i - i) f k)) := by
  have ct : ∀ x, tr_r (tr_ct t i) x = tr_r t (di_sh i (dl_en (tr_d t) (tr_n t) i - i) x) := fun x => by
    show (if x < i then _ else _) = _
    unfold di_sh
    by_cases c : x < i
    · rw [if_pos c, if_pos c]
    · rw [if_neg c, if_neg c]
  have e0 : tr_r (tr_di (tr_ct t i) w f (tr_pre t i (dl_en (tr_d t) (tr_n t) i))) k = if k < f then tr_r (tr_ct t i) k else if k < f + (dl_en (tr_d t) (tr_n t) i - i) then rw_sh (tr_d (tr_ct t i) w + 1) (rw_dn (tr_d t i) (tr_r t (i + (k - f)))) else tr_r (tr_ct t i) (k - (dl_en (tr_d t) (tr_n t) i - i)) := rfl
  rw [e0]
  unfold mv_un
  by_cases c : k < f
  · rw [if_pos c, if_pos c, ct]; exact ⟨rfl, rfl, rfl, rfl⟩
  · rw [if_neg c, if_neg c]
    by_cases c2 : k < f + (dl_en (tr_d t) (tr_n t) i - i)
    · rw [if_pos c2, if_pos c2]; exact ⟨rfl, rfl, rfl, rfl⟩
    · rw [if_neg c2, if_neg c2, ct]; exact ⟨rfl, rfl, rfl, rfl⟩
theorem mv_un_ok (hi : i < tr_n t) {f : Nat} (hf : f ≤ tr_n (tr_ct t i)) : (∀ k, k < tr_n t → mv_un i (dl_en (tr_d t) (tr_n t) i - i) f k < tr_n t) ∧ ∀ j k, j < tr_n t → k < tr_n t → mv_un i (dl_en (tr_d t) (tr_n t) i - i) f j = mv_un i (dl_en (tr_d t) (tr_n t) i - i) f k → j = k := by
  obtain ⟨e1, e2, _, _⟩ := dl_en_spec (d := tr_d t) hi
  have n2 : tr_n t = tr_n (tr_ct t i) + (dl_en (tr_d t) (tr_n t) i - i) := by
    show tr_n t = tr_n t - (dl_en (tr_d t) (tr_n t) i - i) + (dl_en (tr_d t) (tr_n t) i - i)
    omega
  have inv : ∀ k, k < tr_n t → _ := fun k hk => di_sh_inv (f := f) (m := dl_en (tr_d t) (tr_n t) i - i) (n := tr_n (tr_ct t i)) (k := k) (by omega) hf
  refine ⟨fun k hk => ?_, fun j k hj hk e => ?_⟩
  · rcases inv k hk with ⟨x, hx, rfl⟩ | ⟨x, hx, rfl⟩
    · rw [mv_un_s hx]; omega
    · rw [mv_un_sh]
      have := di_sh_lt (f := i) (m := dl_en (tr_d t) (tr_n t) i - i) hx
      omega
  · rcases inv j hj with ⟨x, hx, rfl⟩ | ⟨x, hx, rfl⟩ <;> rcases inv k hk with ⟨y, hy, rfl⟩ | ⟨y, hy, rfl⟩
    · rw [mv_un_s hx, mv_un_s hy] at e; omega
    · rw [mv_un_s hx, mv_un_sh] at e; exact absurd e.symm (di_sh_out hx)
    · rw [mv_un_s hy, mv_un_sh] at e; exact absurd e (di_sh_out hy)
    · rw [mv_un_sh, mv_un_sh] at e; rw [di_sh_inj e]
/-- but for the new parent, children were children before -/
theorem mv_sub (ho : dl_ok (tr_d t) (tr_n t)) (h0 : 0 < i) (hi : i < tr_n t) (hj : j < tr_n t) (hij : ¬ (i ≤ j ∧ j < dl_en (tr_d t) (tr_n t) i)) (ha : a ≤ (dl_cl (tr_d (tr_ct t i)) (tr_n (tr_ct t i)) (mv_w t i j)).length) {k : Nat} (hk : k < tr_n t) (hkw : k ≠ mv_w t i j) {y : Nat} (hy : y ∈ dl_cl (tr_d (mv_t t i j a)) (tr_n t) k) :
    mv_un i (dl_en (tr_d t) (tr_n t) i - i) (mv_f t i j a) y ∈ dl_cl (tr_d t) (tr_n t) (mv_un i (dl_en (tr_d t) (tr_n t) i - i) (mv_f t i j a) k) := by
  obtain ⟨nn, hok, ⟨hwf, hfn⟩, cs, cx, cw⟩ := mv_all ho h0 hi hj hij ha
  obtain ⟨e1, e2, _, _⟩ := dl_en_spec (d := tr_d t) hi
  have n2 : tr_n t = tr_n (tr_ct t i) + (dl_en (tr_d t) (tr_n t) i - i) := by
    show tr_n t = tr_n t - (dl_en (tr_d t) (tr_n t) i - i) + (dl_en (tr_d t) (tr_n t) i - i)
    omega
  rcases di_sh_inv (f := mv_f t i j a) (m := dl_en (tr_d t) (tr_n t) i - i) (n := tr_n (tr_ct t i)) (k := k) (by omega) hfn with ⟨x, hx, rfl⟩ | ⟨x, hx, rfl⟩
  · rw [cs x hx] at hy
    obtain ⟨v, hv, rfl⟩ := List.mem_map.mp hy
    have hvm := ((dl_cl_pa (ds_ok ho hi) hx).mp hv).2.1
    rw [mv_un_s hx, mv_un_s hvm, dc_cl_s ho h0 hi hx]
    exact List.mem_map_of_mem hv
  · by_cases e : x = mv_w t i j
    · refine absurd ?_ hkw
      rw [e]; exact if_pos hwf
    · rw [cx x hx e] at hy
      obtain ⟨v, hv, rfl⟩ := List.mem_map.mp hy
      rw [mv_un_sh, mv_un_sh]
      rw [tr_ct_d] at hv
      exact dc_mem ho h0 hi hx hv
theorem tw_mv (ho : dl_ok (tr_d t) (tr_n t)) (hnt : ¬ tr_tw t) (h0 : 0 < i) (hi : i < tr_n t) (hj : j < tr_n t) (hij : ¬ (i ≤ j ∧ j < dl_en (tr_d t) (tr_n t) i)) (ha : a ≤ (dl_cl (tr_d (tr_ct t i)) (tr_n (tr_ct t i)) (mv_w t i j)).length) : tr_tw (mv_t t i j a) ↔ (tr_k (mv_t t i j a) (mv_w t i j) = 2 ∧ tr_tw1 (mv_t t i j a) (mv_w t i j)) := by
  obtain ⟨nn, hok, ⟨hwf, hfn⟩, _⟩ := mv_all ho h0 hi hj hij ha
  obtain ⟨u1, u2⟩ := mv_un_ok hi hfn
  have w1 := (mv_wn hi hj hij).1
  have n3 : tr_n (tr_ct t i) ≤ tr_n t := Nat.sub_le _ _
  refine tw_perm (π := mv_un i (dl_en (tr_d t) (tr_n t) i - i) (mv_f t i j a)) ho hnt (by rw [nn]; exact hok) (by rw [nn]; exact u1) (by rw [nn]; exact u2) (fun k hk => ?_) (fun k hk hkw y hy => ?_) (by rw [nn]; omega)
  · rw [nn] at hk
    have := mv_rows (t := t) (w := mv_w t i j) hi hfn hk
    exact ⟨this.2.1, this.2.2.1⟩
  · rw [nn] at hk hy
    exact mv_sub ho h0 hi hj hij ha hk hkw hy
theorem tr_ok.mv {N : Nat} (h : tr_ok N t) (h0 : 0 < i) (hi : i < tr_n t) (hj : j < tr_n t) (hk3 : ¬ tr_k t j = 3) (hij : ¬ (i ≤ j ∧ j < dl_en (tr_d t) (tr_n t) i)) (ha : a ≤ (dl_cl (tr_d (tr_ct t i)) (tr_n (tr_ct t i)) (mv_w t i j)).length) (hsm : tr_sm (mv_t t i j a)) (htw : ¬ tr_tw (mv_t t i j a)) : tr_ok N (mv_t t i j a) := by
  have ho := h.1
  obtain ⟨nn, hok, ⟨hwf, hfn⟩, _⟩ := mv_all ho h0 hi hj hij ha
  obtain ⟨u1, u2⟩ := mv_un_ok hi hfn
  obtain ⟨w1, w2⟩ := mv_wn hi hj hij
  have n3 : tr_n (tr_ct t i) ≤ tr_n t := Nat.sub_le _ _
  refine h.perm (w := mv_w t i j) (π := mv_un i (dl_en (tr_d t) (tr_n t) i - i) (mv_f t i j a)) (by rw [nn]; exact hok) hsm (by rw [nn]; exact u1) (by rw [nn]; exact u2) (fun k hk => ?_) (fun k hk hkw y hy => ?_) ?_ htw
  · rw [nn] at hk
    exact mv_rows (t := t) (w := mv_w t i j) hi hfn hk
  · rw [nn] at hk hy
    exact mv_sub ho h0 hi hj hij ha hk hkw hy
  · have h2 := (mv_rows (t := t) (w := mv_w t i j) hi hfn (k := mv_w t i j) (by omega)).2.1
    intro e
    refine hk3 ?_
    have e5 : mv_un i (dl_en (tr_d t) (tr_n t) i - i) (mv_f t i j a) (mv_w t i j) = j := by
      have e6 : mv_un i (dl_en (tr_d t) (tr_n t) i - i) (mv_f t i j a) (mv_w t i j) = di_sh i (dl_en (tr_d t) (tr_n t) i - i) (mv_w t i j) := if_pos hwf
      rw [e6, w2]
    rw [e5] at h2
    exact h2.symm.trans e
end MV
