/-! TAKE, the component: lists and rows -/
theorem dl_cl_get {d : Nat → Nat} {n i k : Nat} (hk : k < (dl_cl d n i).length) : (dl_cl d n i).getD k 0 = dl_at d n i k := by
  rw [List.getD_eq_getElem?_getD, dl_at_get hk]; rfl
theorem dl_at_pa {d : Nat → Nat} {n i k : Nat} (h : dl_ok d n) (hi : i < n) (hk : k < (dl_cl d n i).length) : 0 < dl_at d n i k ∧ dl_at d n i k < n ∧ dl_pa d (dl_at d n i k) = i := (dl_cl_pa h hi).mp (dl_at_mem hk)
theorem ls_ins_app {X Y : List Nat} {j v : Nat} (h : X.length = j) : ls_ins (X ++ Y) j v = X ++ v :: Y := by
  unfold ls_ins
  rw [List.take_left' h, List.drop_left' h]
theorem ls_take_s {l : List Nat} {k : Nat} (h : k < l.length) : l.take (k + 1) = l.take k ++ [l.getD k 0] := by
  rw [List.take_succ, List.getD_eq_getElem?_getD, List.getElem?_eq_getElem h]; rfl
theorem ls_take_get {l : List Nat} {k j : Nat} (h : j < k) : (l.take k).getD j 0 = l.getD j 0 := by
  rw [List.getD_eq_getElem?_getD, List.getD_eq_getElem?_getD, List.getElem?_take_of_lt h]
theorem ls_drop_get {l : List Nat} {k j : Nat} : (l.drop k).getD j 0 = l.getD (k + j) 0 := by
  rw [List.getD_eq_getElem?_getD, List.getD_eq_getElem?_getD, List.getElem?_drop]
theorem ls_get_mem {l : List Nat} {y : Nat} (h : y ∈ l) : ∃ k, k < l.length ∧ l.getD k 0 = y := by
  obtain ⟨k, h1, h2⟩ := List.getElem_of_mem h
  exact ⟨k, h1, by rw [List.getD_eq_getElem?_getD, List.getElem?_eq_getElem h1, h2]; rfl⟩
theorem dl_cl_at {d : Nat → Nat} {n i y : Nat} (h : y ∈ dl_cl d n i) : ∃ k, k < (dl_cl d n i).length ∧ dl_at d n i k = y := by
  obtain ⟨k, h1, h2⟩ := ls_get_mem h
  exact ⟨k, h1, by rw [← dl_cl_get h1]; exact h2⟩
theorem tw1_of {t t' : tr_} {x x' : Nat} (hl : (dl_cl (tr_d t') (tr_n t') x').length = (dl_cl (tr_d t) (tr_n t) x).length) (h : ∀ k, k < (dl_cl (tr_d t) (tr_n t) x).length → tr_l t' (dl_at (tr_d t') (tr_n t') x' k) = tr_l t (dl_at (tr_d t) (tr_n t) x k)) (w : tr_tw1 t' x') : tr_tw1 t x := by
  obtain ⟨j, k, h1, h2, h3⟩ := w
  rw [hl] at h2
  exact ⟨j, k, h1, h2, by rw [← h k h2, ← h j (by omega)]; exact h3⟩
theorem tw_tk {t : tr_} {i : Nat} (ho : dl_ok (tr_d t) (tr_n t)) (ht : ¬ tr_tw t) (h0 : 0 < i) (hi : i < tr_n t) : tr_tw (tr_tk t i) ↔ (tr_k (tr_tk t i) (dl_pa (tr_d t) i) = 2 ∧ tr_tw1 (tr_tk t i) (dl_pa (tr_d t) i)) := by
  have hp := (dl_pa_spec ho h0 hi).1
  constructor
  · rintro ⟨y, hy, hk, hw⟩
    have hy' : y < tr_n t - 1 := hy
    obtain ⟨x, hx, hxi, rfl⟩ := dt_sh_inv (i := i) hy'
    by_cases e : x = dl_pa (tr_d t) i
    · have e2 : dt_sh i x = dl_pa (tr_d t) i := by rw [e]; exact if_pos hp
      rw [e2] at hk hw
      exact ⟨hk, hw⟩
    · refine absurd ⟨x, hx, ?_, ?_⟩ ht
      · exact (tr_tk_at hxi).2.1.symm.trans hk
      · obtain ⟨c1, c2⟩ := dt_cl_x ho h0 hi hx hxi (Ne.symm e)
        refine tw1_of (t' := tr_tk t i) (x' := dt_sh i x) ?_ ?_ hw
        · rw [tr_tk_d]; exact c1
        · intro k hk'
          rw [tr_tk_d]
          have en : tr_n (tr_tk t i) = tr_n t - 1 := rfl
          rw [en, c2 k hk']
          refine (tr_tk_at (fun e' => e ?_)).2.2.1
          have := (dl_at_pa ho hx hk').2.2
          rw [e'] at this
          exact this.symm
  · rintro ⟨hk, hw⟩
    exact ⟨_, by show _ < tr_n t - 1; omega, hk, hw⟩
def dt_un (i k : Nat) : Nat := if k < i then k else k + 1
theorem dt_un_sh {i j : Nat} (h : j ≠ i) : dt_un i (dt_sh i j) = j := by
  unfold dt_un dt_sh
  by_cases c : j < i
  · rw [if_pos c, if_pos c]
  · rw [if_neg c, if_neg (by omega)]; omega
/-- what is left is a tree -/
theorem cD_tk {θ : gc_T} {σ : gc_S} {ow : Nat → Nat} {L : Nat → Prop} {t : tr_} {B : Nat → Nat} {ch : Nat → List Nat} {pa : Nat → Option Nat} {i a p : Nat} (ho : dl_ok (tr_d t) (tr_n t)) (h0 : 0 < i) (hi : i < tr_n t) (ep : dl_pa (tr_d t) i = p) (ha : a < (dl_cl (tr_d t) (tr_n t) p).length) (hat : dl_at (tr_d t) (tr_n t) p a = i)
    (hD : cD θ σ ow L (tr_n t) B (tr_r t) ch pa) (hp : ch p = (dl_cl (tr_d t) (tr_n t) p).take a ++ dl_cl (tr_d t) (tr_n t) i ++ (dl_cl (tr_d t) (tr_n t) p).drop (a + 1)) (hx : ∀ x, x < tr_n t → x ≠ p → ch x = dl_cl (tr_d t) (tr_n t) x)
    (h1 : ∀ j, j < (dl_cl (tr_d t) (tr_n t) i).length → pa (dl_at (tr_d t) (tr_n t) i j) = some (B p)) (h2 : ∀ y, 0 < y → y < tr_n t → (∀ j, j < (dl_cl (tr_d t) (tr_n t) i).length → y ≠ dl_at (tr_d t) (tr_n t) i j) → pa y = some (B (dl_pa (tr_d t) y))) :
    cT θ σ ow L (tr_tk t i) (fun k => B (dt_un i k)) := by
  have hpl := (dl_pa_spec ho h0 hi).1
  rw [ep] at hpl
  have en : tr_n (tr_tk t i) = tr_n t - 1 := rfl
  have hpn : p < tr_n t := by omega
  have np : ∀ x k, x < tr_n t → x ≠ p → k < (dl_cl (tr_d t) (tr_n t) x).length → dl_at (tr_d t) (tr_n t) x k ≠ i := fun x k hx' hxp hk e => by
    have := (dl_at_pa ho hx' hk).2.2
    rw [e, ep] at this
    omega
  refine cD_tree hD ?_ ?_ ?_ ?_ ?_ ?_
  · rw [tr_tk_d]; exact dt_ok ho h0 hi
  · intro k hk
    rw [en] at hk
    unfold dt_un
    split <;> omega
  · intro j k hj hk e
    unfold dt_un at e
    by_cases c1 : j < i
    · rw [if_pos c1] at e
      by_cases c2 : k < i
      · rw [if_pos c2] at e; exact e
      · rw [if_neg c2] at e; omega
    · rw [if_neg c1] at e
      by_cases c2 : k < i
      · rw [if_pos c2] at e; omega
      · rw [if_neg c2] at e; omega
  · intro k hk
    rw [en] at hk
    obtain ⟨x, hx', hxi, rfl⟩ := dt_sh_inv (i := i) hk
    rw [dt_un_sh hxi]
    obtain ⟨a1, a2, a3, a4, _⟩ := tr_tk_at (t := t) hxi
    exact ⟨a1, a2, a3, a4⟩
  · intro k hk
    rw [en] at hk
    obtain ⟨x, hx', hxi, rfl⟩ := dt_sh_inv (i := i) hk
    rw [dt_un_sh hxi, tr_tk_d, en]
    by_cases e : x = p
    · subst e
      have e2 : dt_sh i x = x := if_pos hpl
      rw [e2, hp]
      obtain ⟨c1, c2⟩ := dt_cl_p ho h0 hi hpn ha hat
      have hlT : ((dl_cl (tr_d t) (tr_n t) x).take a).length = a := by rw [List.length_take]; omega
      refine ls_ext ?_ (fun j hj => ?_)
      · rw [List.length_map, c1, List.length_append, List.length_append, hlT, List.length_drop]; omega
      · rw [List.length_map, c1] at hj
        rw [ls_map_get (by rw [c1]; exact hj), dl_cl_get (by rw [c1]; exact hj), c2 j (by omega)]
        by_cases j1 : j < a
        · rw [if_pos j1, ls_app_lt (by rw [List.length_append, hlT]; omega), ls_app_lt (by rw [hlT]; exact j1), ls_take_get j1, dl_cl_get (by omega)]
          have := dl_at_lt2 ho hpn a j1 (by omega)
          exact if_pos (by omega)
        · rw [if_neg j1]
          by_cases j2 : j < a + (dl_cl (tr_d t) (tr_n t) i).length
          · rw [if_pos j2, ls_app_lt (by rw [List.length_append, hlT]; omega), ls_app_ge (by rw [hlT]; omega), hlT, dl_cl_get (by omega)]
            have := (dl_at_in ho hi (k := j - a) (by omega)).1
            have e3 : dt_un i (dl_at (tr_d t) (tr_n t) i (j - a) - 1) = dl_at (tr_d t) (tr_n t) i (j - a) - 1 + 1 := if_neg (by omega)
            rw [e3]; omega
          · rw [if_neg j2, ls_app_ge (by rw [List.length_append, hlT]; omega), List.length_append, hlT, ls_drop_get, dl_cl_get (by omega)]
            have := dl_at_lt2 ho hpn (j - (dl_cl (tr_d t) (tr_n t) i).length + 1) (j := a) (by omega) (by omega)
            have e4 : a + 1 + (j - (a + (dl_cl (tr_d t) (tr_n t) i).length)) = j - (dl_cl (tr_d t) (tr_n t) i).length + 1 := by omega
            rw [e4]
            have e3 : dt_un i (dl_at (tr_d t) (tr_n t) x (j - (dl_cl (tr_d t) (tr_n t) i).length + 1) - 1) = dl_at (tr_d t) (tr_n t) x (j - (dl_cl (tr_d t) (tr_n t) i).length + 1) - 1 + 1 := if_neg (by omega)
            rw [e3]; omega
    · rw [hx x hx' e]
      obtain ⟨c1, c2⟩ := dt_cl_x ho h0 hi hx' hxi (fun y => e (by rw [← y, ep]))
      refine ls_ext ?_ (fun j hj => ?_)
      · rw [List.length_map, c1]
      · rw [List.length_map, c1] at hj
        rw [ls_map_get (by rw [c1]; exact hj), dl_cl_get (by rw [c1]; exact hj), c2 j hj, dt_un_sh (np x j hx' e hj), dl_cl_get hj]
  · intro k j hk hj _ hm
    rw [en] at hk hj
    obtain ⟨x, hx', hxi, rfl⟩ := dt_sh_inv (i := i) hk
    obtain ⟨y, hy', hyi, rfl⟩ := dt_sh_inv (i := i) hj
    rw [dt_un_sh hxi, dt_un_sh hyi] at hm ⊢
    have cl : ∀ x, x < tr_n t → x ≠ i → y ∈ dl_cl (tr_d t) (tr_n t) x → pa y = some (B x) := fun x hx' hxi hm => by
      obtain ⟨y0, _, y1⟩ := (dl_cl_pa ho hx').mp hm
      rw [h2 y y0 hy' (fun j hj e => hxi ?_), y1]
      rw [← y1, e]
      exact (dl_at_pa ho hi hj).2.2
    by_cases e : x = p
    · subst e
      rw [hp, List.mem_append, List.mem_append] at hm
      rcases hm with (hm | hm) | hm
      · exact cl x hx' hxi (List.mem_of_mem_take hm)
      · obtain ⟨j, hj1, hj2⟩ := dl_cl_at hm
        rw [← hj2]; exact h1 j hj1
      · exact cl x hx' hxi (List.mem_of_mem_drop hm)
    · rw [hx x hx' e] at hm
      exact cl x hx' hxi hm
