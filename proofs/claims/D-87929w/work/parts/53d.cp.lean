/-! PUT, the component -/
theorem rg_sub {l a b : Nat} (hl : l < 2 ^ 31) (ha : a < 2 ^ 31) (hb : b < 2 ^ 31) : nI l - nI a < nI b ↔ l < a + b := by
  rw [Int32.lt_iff_toInt_lt, Int32.toInt_sub, show nI l = Int32.ofNat l from rfl, show nI a = Int32.ofNat a from rfl, show nI b = Int32.ofNat b from rfl, Int32.toInt_ofNat_of_lt hl, Int32.toInt_ofNat_of_lt ha, Int32.toInt_ofNat_of_lt hb, Int.bmod_eq_of_le_mul_two (by omega) (by omega)]
  omega
theorem ls_del_app {X Y : List Nat} {j : Nat} (h : X.length = j) : ls_del (X ++ Y) j = X ++ Y.drop 1 := by
  unfold ls_del
  rw [List.take_left' h, ← List.drop_drop, List.drop_left' h]
def pt_un (f n k : Nat) : Nat := if k < f then k else if k = f then n else k - 1
theorem pt_un_sh {f n j : Nat} : pt_un f n (dp_sh f j) = j := by
  unfold pt_un dp_sh
  by_cases c : j < f
  · rw [if_pos c, if_pos c]
  · rw [if_neg c, if_neg (by omega), if_neg (by omega)]; omega
theorem pt_un_f {f n : Nat} : pt_un f n f = n := by
  unfold pt_un
  rw [if_neg (by omega), if_pos rfl]
theorem pt_un_hi {f n x : Nat} (h : f ≤ x) : pt_un f n (x + 1) = x := by
  unfold pt_un
  rw [if_neg (by omega), if_neg (by omega)]; omega
theorem pt_un_lo {f n x : Nat} (h : x < f) : pt_un f n x = x := if_pos h
section PT
variable {t : tr_} {i a b : Nat} {r0 : rw_}
theorem tw_pt (ho : dl_ok (tr_d t) (tr_n t)) (ht : ¬ tr_tw t) (hi : i < tr_n t) (hab : a + b ≤ (dl_cl (tr_d t) (tr_n t) i).length) (hr : rw_d r0 = tr_d t i + 1) :
    tr_tw (tr_pt t (dl_at (tr_d t) (tr_n t) i a) (dl_at (tr_d t) (tr_n t) i (a + b)) r0) ↔ ((tr_k (tr_pt t (dl_at (tr_d t) (tr_n t) i a) (dl_at (tr_d t) (tr_n t) i (a + b)) r0) i = 2 ∧ tr_tw1 (tr_pt t (dl_at (tr_d t) (tr_n t) i a) (dl_at (tr_d t) (tr_n t) i (a + b)) r0) i) ∨ (tr_k (tr_pt t (dl_at (tr_d t) (tr_n t) i a) (dl_at (tr_d t) (tr_n t) i (a + b)) r0) (dl_at (tr_d t) (tr_n t) i a) = 2 ∧ tr_tw1 (tr_pt t (dl_at (tr_d t) (tr_n t) i a) (dl_at (tr_d t) (tr_n t) i (a + b)) r0) (dl_at (tr_d t) (tr_n t) i a))) := by
  have hfi := dl_at_le ho hi (k := a)
  have hen := (dl_en_spec (d := tr_d t) (n := tr_n t) hi).2.1
  have hfl : dl_at (tr_d t) (tr_n t) i a ≤ dl_at (tr_d t) (tr_n t) i (a + b) := by
    by_cases e : b = 0
    · rw [e]; exact Nat.le_refl _
    · exact Nat.le_of_lt (dl_at_lt2 ho hi (a + b) (by omega) (by omega))
  constructor
  · rintro ⟨y, hy, hk, hw⟩
    have hy' : y < tr_n t + 1 := hy
    rcases dp_sh_inv (f := dl_at (tr_d t) (tr_n t) i a) hy' (by omega) with e | ⟨x, hx, e⟩
    · rw [e] at hk hw; exact Or.inr ⟨hk, hw⟩
    · by_cases ex : x = i
      · have e2 : dp_sh (dl_at (tr_d t) (tr_n t) i a) x = i := by rw [ex]; exact if_pos (by omega)
        rw [e, e2] at hk hw
        exact Or.inl ⟨hk, hw⟩
      · refine absurd ⟨x, hx, ?_, ?_⟩ ht
        · rw [e] at hk
          exact (tr_pt_at hfl).2.1.symm.trans hk
        · obtain ⟨c1, c2⟩ := dp_cl_x ho hi hab hx ex
          rw [e] at hw
          refine tw1_of ?_ ?_ hw
          · rw [tr_pt_d hr]; exact c1
          · intro k hk'
            rw [tr_pt_d hr]
            have en : tr_n (tr_pt t (dl_at (tr_d t) (tr_n t) i a) (dl_at (tr_d t) (tr_n t) i (a + b)) r0) = tr_n t + 1 := rfl
            rw [en, c2 k hk']
            exact (tr_pt_at hfl).2.2.1
  · rintro (⟨hk, hw⟩ | ⟨hk, hw⟩)
    · exact ⟨_, by show _ < tr_n t + 1; omega, hk, hw⟩
    · exact ⟨_, by show _ < tr_n t + 1; omega, hk, hw⟩
theorem cD_pt {θ : gc_T} {σ : gc_S} {ow : Nat → Nat} {L : Nat → Prop} {B : Nat → Nat} {r : Nat → rw_} {ch : Nat → List Nat} {pa : Nat → Option Nat} (ho : dl_ok (tr_d t) (tr_n t)) (hi : i < tr_n t) (hab : a + b ≤ (dl_cl (tr_d t) (tr_n t) i).length) (hr : rw_d r0 = tr_d t i + 1)
    (hD : cD θ σ ow L (tr_n t + 1) B r ch pa) (hr1 : r (tr_n t) = r0) (hr2 : ∀ x, x < tr_n t → r x = tr_r t x) (hi1 : ch i = (dl_cl (tr_d t) (tr_n t) i).take a ++ tr_n t :: (dl_cl (tr_d t) (tr_n t) i).drop (a + b)) (hf1 : ch (tr_n t) = ((dl_cl (tr_d t) (tr_n t) i).drop a).take b) (hx1 : ∀ x, x < tr_n t → x ≠ i → ch x = dl_cl (tr_d t) (tr_n t) x)
    (h1 : ∀ u, u < b → pa (dl_at (tr_d t) (tr_n t) i (a + u)) = some (B (tr_n t))) (h2 : ∀ y, 0 < y → y < tr_n t → (∀ u, u < b → y ≠ dl_at (tr_d t) (tr_n t) i (a + u)) → pa y = some (B (dl_pa (tr_d t) y))) (h3 : pa (tr_n t) = some (B i)) :
    cT θ σ ow L (tr_pt t (dl_at (tr_d t) (tr_n t) i a) (dl_at (tr_d t) (tr_n t) i (a + b)) r0) (fun k => B (pt_un (dl_at (tr_d t) (tr_n t) i a) (tr_n t) k)) := by
  have hfi := dl_at_le ho hi (k := a)
  have hen := (dl_en_spec (d := tr_d t) (n := tr_n t) hi).2.1
  have hmo : ∀ u v, u < v → v ≤ (dl_cl (tr_d t) (tr_n t) i).length → dl_at (tr_d t) (tr_n t) i u < dl_at (tr_d t) (tr_n t) i v := fun u v h1 h2 => dl_at_lt2 ho hi v h1 h2
  have hge : ∀ u, a ≤ u → u ≤ (dl_cl (tr_d t) (tr_n t) i).length → dl_at (tr_d t) (tr_n t) i a ≤ dl_at (tr_d t) (tr_n t) i u := fun u h1 h2 => by
    by_cases e : u = a
    · rw [e]; exact Nat.le_refl _
    · exact Nat.le_of_lt (hmo a u (by omega) h2)
  have hfl := hge (a + b) (by omega) hab
  have en : tr_n (tr_pt t (dl_at (tr_d t) (tr_n t) i a) (dl_at (tr_d t) (tr_n t) i (a + b)) r0) = tr_n t + 1 := rfl
  have ei : dp_sh (dl_at (tr_d t) (tr_n t) i a) i = i := if_pos (by omega)
  have hlT : ((dl_cl (tr_d t) (tr_n t) i).take a).length = a := by rw [List.length_take]; omega
  refine cD_tree hD ?_ ?_ ?_ ?_ ?_ ?_
  · rw [tr_pt_d hr]; exact dp_ok ho hi (dl_bd_at ho hi a) (dl_bd_at ho hi (a + b)) hfl
  · intro k hk
    rw [en] at hk
    unfold pt_un
    split
    · omega
    · split <;> omega
  · intro j k hj hk e
    rw [en] at hj hk
    rcases dp_sh_inv (f := dl_at (tr_d t) (tr_n t) i a) hj (by omega) with e1 | ⟨x, hx, e1⟩ <;> rcases dp_sh_inv (f := dl_at (tr_d t) (tr_n t) i a) hk (by omega) with e2 | ⟨y, hy, e2⟩
    · omega
    · rw [e1, e2, pt_un_f, pt_un_sh] at e; omega
    · rw [e1, e2, pt_un_f, pt_un_sh] at e; omega
    · rw [e1, e2, pt_un_sh, pt_un_sh] at e; rw [e1, e2, e]
  · intro k hk
    rw [en] at hk
    rcases dp_sh_inv (f := dl_at (tr_d t) (tr_n t) i a) hk (by omega) with e1 | ⟨x, hx, e1⟩
    · rw [e1, pt_un_f, hr1, tr_pt_f]; exact ⟨rfl, rfl, rfl, rfl⟩
    · rw [e1, pt_un_sh, hr2 x hx]; exact tr_pt_at hfl
  · intro k hk
    rw [en] at hk
    rw [tr_pt_d hr, en]
    rcases dp_sh_inv (f := dl_at (tr_d t) (tr_n t) i a) hk (by omega) with e1 | ⟨x, hx, e1⟩
    · rw [e1, pt_un_f, hf1]
      obtain ⟨c1, c2⟩ := dp_cl_f ho hi hab
      refine ls_ext ?_ (fun j hj => ?_)
      · rw [List.length_map, c1, List.length_take, List.length_drop]; omega
      · rw [List.length_map, c1] at hj
        rw [ls_map_get (by rw [c1]; exact hj), dl_cl_get (by rw [c1]; exact hj), c2 j (by omega), pt_un_hi (hge _ (by omega) (by omega)), ls_take_get hj, ls_drop_get, dl_cl_get (by omega)]
    · by_cases ex : x = i
      · rw [e1, pt_un_sh, ex, ei, hi1]
        obtain ⟨c1, c2⟩ := dp_cl_i ho hi hab
        refine ls_ext ?_ (fun j hj => ?_)
        · rw [List.length_map, c1, List.length_append, List.length_cons, hlT, List.length_drop]; omega
        · rw [List.length_map, c1] at hj
          rw [ls_map_get (by rw [c1]; exact hj), dl_cl_get (by rw [c1]; exact hj), c2 j (by omega)]
          by_cases j1 : j < a
          · rw [if_pos j1, ls_app_lt (by rw [hlT]; exact j1), ls_take_get j1, dl_cl_get (by omega), pt_un_lo (hmo j a j1 (by omega))]
          · rw [if_neg j1, ls_app_ge (by rw [hlT]; omega), hlT]
            by_cases j2 : j = a
            · rw [if_pos j2, pt_un_f, j2, Nat.sub_self]; rfl
            · rw [if_neg j2, pt_un_hi (hge _ (by omega) (by omega))]
              obtain ⟨u, hu⟩ : ∃ u, j - a = u + 1 := ⟨j - a - 1, by omega⟩
              rw [hu]
              show _ = ((dl_cl (tr_d t) (tr_n t) i).drop (a + b)).getD u 0
              rw [ls_drop_get, dl_cl_get (by omega)]
              congr 1
              omega
      · rw [e1, pt_un_sh, hx1 x hx ex]
        obtain ⟨c1, c2⟩ := dp_cl_x ho hi hab hx ex
        refine ls_ext ?_ (fun j hj => ?_)
        · rw [List.length_map, c1]
        · rw [List.length_map, c1] at hj
          rw [ls_map_get (by rw [c1]; exact hj), dl_cl_get (by rw [c1]; exact hj), c2 j hj, pt_un_sh, dl_cl_get hj]
  · intro k j hk hj _ hm
    rw [en] at hk hj
    generalize pt_un (dl_at (tr_d t) (tr_n t) i a) (tr_n t) j = y at hm ⊢
    rcases dp_sh_inv (f := dl_at (tr_d t) (tr_n t) i a) hk (by omega) with e1 | ⟨x, hx, e1⟩
    · rw [e1, pt_un_f, hf1] at hm
      rw [e1, pt_un_f]
      obtain ⟨u, hu1, hu2⟩ := ls_get_mem hm
      have hu3 : u < b := by rw [List.length_take] at hu1; omega
      rw [ls_take_get hu3, ls_drop_get, dl_cl_get (by omega)] at hu2
      rw [← hu2]
      exact h1 u hu3
    · rw [e1, pt_un_sh] at hm ⊢
      by_cases ex : x = i
      · rw [ex] at hm ⊢
        rw [hi1, List.mem_append, List.mem_cons] at hm
        have key : ∀ u, u < (dl_cl (tr_d t) (tr_n t) i).length → (u < a ∨ a + b ≤ u) → pa (dl_at (tr_d t) (tr_n t) i u) = some (B i) := fun u hu hu2 => by
          obtain ⟨y0, y1, y2⟩ := dl_at_pa ho hi hu
          rw [h2 _ y0 y1 (fun v hv e => ?_), y2]
          have := dl_at_inj ho hi hu (by omega) e
          omega
        rcases hm with hm | hm | hm
        · obtain ⟨u, hu1, hu2⟩ := ls_get_mem hm
          rw [hlT] at hu1
          rw [ls_take_get hu1, dl_cl_get (by omega)] at hu2
          rw [← hu2]; exact key u (by omega) (Or.inl hu1)
        · rw [hm]; exact h3
        · obtain ⟨u, hu1, hu2⟩ := ls_get_mem hm
          rw [List.length_drop] at hu1
          rw [ls_drop_get, dl_cl_get (by omega)] at hu2
          rw [← hu2]; exact key _ (by omega) (Or.inr (by omega))
      · rw [hx1 x hx ex] at hm
        obtain ⟨y0, y1, y2⟩ := (dl_cl_pa ho hx).mp hm
        rw [h2 y y0 y1 (fun u hu e => ex ?_), y2]
        rw [← y2, e]
        exact (dl_at_pa ho hi (by omega)).2.2
end PT
