set_option maxRecDepth 100000
/-! J5.add_2 -/
theorem ec_J5_add_2 {θ : gc_T} {P : gc_S → Prop} {σ : gc_S} {n c s : Nat} {a0 : Nat} {x1 : Option Nat} {x2 : Option Nat} {x3 : Int32} (body : ∀ K, gc_K θ K (nJ5_add_2 (n + 1) c s) → gc_G θ K (nJ5_add_2 (n + 1) c s) (gc_Pv P) 0 [(0, va_rf (some a0)), (1, va_rf x1), (2, va_rf x2), (3, .int x3)] [] σ c s) : gx_C (gc_O θ) (nJ5_add_2 (n + 1) c s) [.ref a0, va_rf x1, va_rf x2, .int x3] σ (gc_Pv P) := by
  refine gx_C.intro (gc_z_warm θ) rfl (by cases x1 <;>  cases x2 <;> exact Nat.le_of_ble_eq_true rfl) (fun K h => ?_)
  have k := body K h
  cases x1 <;>  cases x2 <;> exact k
theorem bc_J5_add_2_0 {θ : gc_T} {K : gx_K} {P : gc_S → Prop} {σ : gc_S} {x3 : Int32} {x1 x2 : Option Nat} {a0 n c s bc bs : Nat} (h : gc_K θ K (nJ5_add_2 (n + 1) c s)) (k : ∃ a2_1 : Nat, x2 = some a2_1 ∧ gc_isO θ σ a2_1 ∧ ((x3 = (Int32.ofNat (gc_n σ a2_1)) → ∃ c7 s7 : Nat, (c7 ≤ bc ∧ s7 ≤ bs) ∧ gc_is σ a0 12 ∧ gx_C (gc_O θ) (nJ5_grow n c7 s7) (.ref a0 :: []) σ (gc_Pr (fun r7 σ7 => gc_G θ K (nJ5_add_2 (n + 1) c s) (gc_Pv P) 11 [(0, va_rf (some a0)), (1, va_rf x1), (2, va_rf r7), (3, .int x3)] [] σ7 (bc - c7) (bs - s7)))) ∧ (¬ x3 = (Int32.ofNat (gc_n σ a2_1)) → gc_G θ K (nJ5_add_2 (n + 1) c s) (gc_Pv P) 11 [(0, va_rf (some a0)), (1, va_rf x1), (2, va_rf x2), (3, .int x3)] [] σ bc bs))) : gc_G θ K (nJ5_add_2 (n + 1) c s) (gc_Pv P) 0 [(0, va_rf (some a0)), (1, va_rf x1), (2, va_rf x2), (3, .int x3)] [] σ bc bs := by
  refine gx_iload_n h 3 rfl dJ5_add_2_0 ?_
  refine gx_aload_nq (r := x2) h 2 rfl dJ5_add_2_1 ?_
  obtain ⟨a2_1, e2_1, k⟩ := k
  refine gc_alen20E (r := x2) h e2_1 k.1 dJ5_add_2_2 ?_
  replace k := k.2
  refine gx_icmp_ne (tgt := 11) h (by decide) dJ5_add_2_3 (fun c => ?_) (fun c => ?_)
  · replace k := k.2 c
    exact k
  · replace k := k.1 c
    refine gx_aload_nq (r := some a0) h 0 rfl dJ5_add_2_6 ?_
    obtain ⟨c7, s7, hb7, k⟩ := k
    refine gcc_J5_129 (r := some a0)  h rfl ⟨Nat.le_refl _, Nat.le_refl _⟩ hb7 rfl k.1 (Nat.le_of_ble_eq_true rfl) dJ5_add_2_7 (gx_C.mono k.2 ?_)
    rintro _ σ7 ⟨r7, rfl, k⟩
    refine ⟨r7, rfl, ?_⟩
    refine gx_astore_nq (r := r7) (L' := [(2, va_rf r7), (0, va_rf (some a0)), (1, va_rf x1), (3, .int x3)]) h (Nat.le_of_ble_eq_true rfl) (by generalize x1 = z; cases z <;> rfl) dJ5_add_2_10 ?_
    exact gx_sub [1, 2, 0, 3] rfl k
theorem bc_J5_add_2_11 {θ : gc_T} {K : gx_K} {P : gc_S → Prop} {σ : gc_S} {x3 : Int32} {x1 x2 : Option Nat} {a0 n c s bc bs : Nat} (h : gc_K θ K (nJ5_add_2 (n + 1) c s)) (k : ∃ a14_1 : Nat, x2 = some a14_1 ∧ gc_is σ a14_1 20 ∧ vp_in x3 (gc_n σ a14_1) ∧ (∀ v, x1 = some v → gc_isV θ σ v) ∧ ∀ σ14, σ14 = gc_sQ σ a14_1 x3.toNatClampNeg x1 → gc_is σ14 a0 12 ∧ ∀ σ19, σ19 = gc_sI σ14 1202 a0 (x3 + 1) → P σ19) : gc_G θ K (nJ5_add_2 (n + 1) c s) (gc_Pv P) 11 [(0, va_rf (some a0)), (1, va_rf x1), (2, va_rf x2), (3, .int x3)] [] σ bc bs := by
  refine gx_aload_nq (r := x2) h 2 rfl dJ5_add_2_11 ?_
  refine gx_iload_n h 3 rfl dJ5_add_2_12 ?_
  refine gx_aload_nq (r := x1) h 1 rfl dJ5_add_2_13 ?_
  obtain ⟨a14_1, e14_1, k⟩ := k
  refine gc_aast20E (r := x2) (w := x1) h e14_1 k.1 k.2.1 k.2.2.1 dJ5_add_2_14 ?_
  generalize hz : gc_sQ σ a14_1 x3.toNatClampNeg x1 = σ14
  replace k := k.2.2.2 σ14 hz.symm
  refine gx_aload_nq (r := some a0) h 0 rfl dJ5_add_2_15 ?_
  refine gx_iload_n h 3 rfl dJ5_add_2_16 ?_
  refine gx_iconst (v := 1) h dJ5_add_2_17 (by decide) ?_
  refine gx_iadd h dJ5_add_2_18 ?_
  refine gcp_J5_48 (v := x3 + 1) h rfl rfl k.1 dJ5_add_2_19 ?_
  generalize hz : gc_sI σ14 1202 a0 (x3 + 1) = σ19
  replace k := k.2 σ19 hz.symm
  exact gx_vret h rfl dJ5_add_2_22 (⟨rfl, k⟩)
/-! J5.grow -/
theorem ec_J5_grow {θ : gc_T} {P : Option Nat → gc_S → Prop} {σ : gc_S} {n c s : Nat} {a0 : Nat} (body : ∀ K, gc_K θ K (nJ5_grow (n + 1) c s) → gc_G θ K (nJ5_grow (n + 1) c s) (gc_Pr P) 0 [(0, va_rf (some a0))] [] σ c s) : gx_C (gc_O θ) (nJ5_grow (n + 1) c s) [.ref a0] σ (gc_Pr P) :=
  gx_C.intro (gc_z_warm θ) rfl (Nat.le_of_ble_eq_true rfl) body
theorem bc_J5_grow_0 {θ : gc_T} {K : gx_K} {P : Option Nat → gc_S → Prop} {σ : gc_S} {a0 n c s bc bs : Nat} (h : gc_K θ K (nJ5_grow (n + 1) c s)) (k : gc_is σ a0 12 ∧ ∃ c7 s7 : Nat, (c7 ≤ bc ∧ s7 ≤ bs) ∧ gc_is σ a0 12 ∧ gx_C (gc_O θ) (nJ5_grow_2 n c7 s7) (.ref a0 :: [.int ((gc_I σ 1202 a0) + 1)]) σ (gc_Pr (fun r7 σ7 => P r7 σ7))) : gc_G θ K (nJ5_grow (n + 1) c s) (gc_Pr P) 0 [(0, va_rf (some a0))] [] σ bc bs := by
  refine gx_aload_nq (r := some a0) h 0 rfl dJ5_grow_0 ?_
  refine gx_aload_nq (r := some a0) h 0 rfl dJ5_grow_1 ?_
  refine gcg_J5_48 h rfl rfl k.1 dJ5_grow_2 ?_
  replace k := k.2
  refine gx_iconst (v := 1) h dJ5_grow_5 (by decide) ?_
  refine gx_iadd h dJ5_grow_6 ?_
  obtain ⟨c7, s7, hb7, k⟩ := k
  refine gcc_J5_69 (r := some a0) (a0 := (gc_I σ 1202 a0) + 1) h rfl ⟨Nat.le_refl _, Nat.le_refl _⟩ hb7 rfl k.1 (Nat.le_of_ble_eq_true rfl) dJ5_grow_7 (gx_C.mono k.2 ?_)
  rintro _ σ7 ⟨r7, rfl, k⟩
  refine ⟨r7, rfl, ?_⟩
  exact gx_aret (r := r7) h rfl (Or.inr ⟨_, rfl⟩) dJ5_grow_10 (⟨_, rfl, k⟩)
/-! J5.grow_2 -/
theorem ec_J5_grow_2 {θ : gc_T} {P : Option Nat → gc_S → Prop} {σ : gc_S} {n c s : Nat} {a0 : Nat} {x1 : Int32} (body : ∀ K, gc_K θ K (nJ5_grow_2 (n + 1) c s) → gc_G θ K (nJ5_grow_2 (n + 1) c s) (gc_Pr P) 0 [(0, va_rf (some a0)), (1, .int x1)] [] σ c s) : gx_C (gc_O θ) (nJ5_grow_2 (n + 1) c s) [.ref a0, .int x1] σ (gc_Pr P) :=
  gx_C.intro (gc_z_warm θ) rfl (Nat.le_of_ble_eq_true rfl) body
theorem bc_J5_grow_2_0 {θ : gc_T} {K : gx_K} {P : Option Nat → gc_S → Prop} {σ : gc_S} {x1 : Int32} {a0 n c s bc bs : Nat} (h : gc_K θ K (nJ5_grow_2 (n + 1) c s)) (k : gc_is σ a0 12 ∧ ∃ a4_1 : Nat, gc_R σ 1201 a0 = some a4_1 ∧ gc_isO θ σ a4_1 ∧ ∀ x2_5 : Int32, x2_5 = Int32.ofNat (gc_n σ a4_1) → ((0 < x2_5 → gc_G θ K (nJ5_grow_2 (n + 1) c s) (gc_Pr P) 20 [(0, va_rf (some a0)), (1, .int x1), (2, .int x2_5)] [] σ bc bs) ∧ (¬ 0 < x2_5 → gc_is σ a0 12 ∧ (((gc_R σ 1201 a0) = (some (gc_aD θ)) → ¬ (if 10 < x1 then x1 else 10) < 0 ∧ (if 10 < x1 then x1 else 10).toNatClampNeg ≤ 100000 ∧ 1 ≤ bc ∧ (if 10 < x1 then x1 else 10).toNatClampNeg ≤ bs ∧ ∀ q52, q52 ∉ gc_d σ → gc_A θ q52 → ∀ σ52, σ52 = gc_new σ q52 20 (if 10 < x1 then x1 else 10).toNatClampNeg → gc_is σ52 a0 12 ∧ ∀ σ56, σ56 = gc_sR σ52 1201 a0 (some q52) → P (some q52) σ56) ∧ (¬ (gc_R σ 1201 a0) = (some (gc_aD θ)) → gc_G θ K (nJ5_grow_2 (n + 1) c s) (gc_Pr P) 20 [(0, va_rf (some a0)), (1, .int x1), (2, .int x2_5)] [] σ bc bs))))) : gc_G θ K (nJ5_grow_2 (n + 1) c s) (gc_Pr P) 0 [(0, va_rf (some a0)), (1, .int x1)] [] σ bc bs := by
  refine gx_aload_nq (r := some a0) h 0 rfl dJ5_grow_2_0 ?_
  refine gcg_J5_9 h rfl rfl k.1 dJ5_grow_2_1 ?_
  replace k := k.2
  obtain ⟨a4_1, e4_1, k⟩ := k
  refine gc_alen20E (r := gc_R σ 1201 a0) h e4_1 k.1 dJ5_grow_2_4 ?_
  replace k := k.2
  generalize hz : (Int32.ofNat (gc_n σ a4_1)) = x2_5
  replace k := k x2_5 hz.symm
  refine gx_istore_n (L' := [(2, .int x2_5), (0, va_rf (some a0)), (1, .int x1)]) h (Nat.le_of_ble_eq_true rfl) rfl dJ5_grow_2_5 ?_
  refine gx_iload_n h 0 rfl dJ5_grow_2_6 ?_
  refine gx_if_gt (tgt := 20) h (by decide) dJ5_grow_2_7 (fun c => ?_) (fun c => ?_)
  · replace k := k.1 c
    exact gx_sub [1, 2, 0] rfl k
  · replace k := k.2 c
    refine gx_aload_nq (r := some a0) h 1 rfl dJ5_grow_2_10 ?_
    refine gcg_J5_9 h rfl rfl k.1 dJ5_grow_2_11 ?_
    replace k := k.2
    refine gc_dflt h rfl q298 dJ5_grow_2_14 ?_
    refine gx_acmp_eq (u := (gc_R σ 1201 a0)) (v := (some (gc_aD θ))) (tgt := 45) h (by decide) dJ5_grow_2_17 (fun c => ?_) (fun c => ?_)
    · replace k := k.1 c
      refine gx_aload_nq (r := some a0) h 1 rfl dJ5_grow_2_45 ?_
      refine gx_bipush (v := 10) h dJ5_grow_2_46 (by decide) ?_
      refine gx_iload_n h 2 rfl dJ5_grow_2_48 ?_
      refine gcc_J5_79 (n := n) h rfl ⟨Nat.le_refl _, Nat.le_refl _⟩ (Nat.le_of_ble_eq_true rfl) dJ5_grow_2_49 ?_
      refine gc_newq (k := 20) (t := 6) (by decide) rfl h rfl q691 q684 k.1 k.2.1 dJ5_grow_2_52 k.2.2.1 k.2.2.2.1 (fun q52 hq hA => ?_)
      generalize hz : gc_new σ q52 20 (if 10 < x1 then x1 else 10).toNatClampNeg = σ52
      replace k := k.2.2.2.2 q52 hq hA σ52 hz.symm
      refine gx_dup_x1 h rfl rfl dJ5_grow_2_55 ?_
      refine gcp_J5_9 (v := some q52) h rfl rfl k.1 dJ5_grow_2_56 ?_
      generalize hz : gc_sR σ52 1201 a0 (some q52) = σ56
      replace k := k.2 σ56 hz.symm
      exact gx_aret (r := some q52) h rfl (Or.inr ⟨_, rfl⟩) dJ5_grow_2_59 (⟨_, rfl, k⟩)
    · replace k := k.2 c
      exact gx_sub [1, 2, 0] rfl k
theorem bc_J5_grow_2_20 {θ : gc_T} {K : gx_K} {P : Option Nat → gc_S → Prop} {σ : gc_S} {x1 x2 : Int32} {a0 n c s bc bs : Nat} (h : gc_K θ K (nJ5_grow_2 (n + 1) c s)) (k : gx_C (gc_O θ) (nJ8_newLength n) [.int x2, .int (x1 - x2), .int (x2 >>> ((1 : Int32) &&& 31))] σ (gc_Pi (fun r27 σ27 => gc_is σ27 a0 12 ∧ ∃ c37 s37 : Nat, (c37 ≤ bc ∧ s37 ≤ bs) ∧ gx_C (gc_O θ) (nJ10_copyOf n c37 s37) [va_rf (gc_R σ27 1201 a0), .int r27] σ27 (gc_Pr (fun r37 σ37 => gc_is σ37 a0 12 ∧ ∀ σ41, σ41 = gc_sR σ37 1201 a0 r37 → P r37 σ41))))) : gc_G θ K (nJ5_grow_2 (n + 1) c s) (gc_Pr P) 20 [(0, va_rf (some a0)), (1, .int x1), (2, .int x2)] [] σ bc bs := by
  refine gx_iload_n h 2 rfl dJ5_grow_2_20 ?_
  refine gx_iload_n h 1 rfl dJ5_grow_2_21 ?_
  refine gx_iload_n h 2 rfl dJ5_grow_2_22 ?_
  refine gx_isub h dJ5_grow_2_23 ?_
  refine gx_iload_n h 2 rfl dJ5_grow_2_24 ?_
  refine gx_iconst (v := 1) h dJ5_grow_2_25 (by decide) ?_
  refine gx_ishr h dJ5_grow_2_26 ?_
  refine gcc_J5_73 (a0 := x2) (a1 := x1 - x2) (a2 := x2 >>> ((1 : Int32) &&& 31)) h rfl ⟨Nat.le_refl _, Nat.le_refl _⟩ (Nat.le_of_ble_eq_true rfl) dJ5_grow_2_27 (gx_C.mono k ?_)
  rintro _ σ27 ⟨r27, rfl, k⟩
  refine ⟨r27, rfl, ?_⟩
  refine gx_istore_n (L' := [(3, .int r27), (0, va_rf (some a0)), (1, .int x1), (2, .int x2)]) h (Nat.le_of_ble_eq_true rfl) rfl dJ5_grow_2_30 ?_
  refine gx_aload_nq (r := some a0) h 1 rfl dJ5_grow_2_31 ?_
  refine gx_aload_nq (r := some a0) h 1 rfl dJ5_grow_2_32 ?_
  refine gcg_J5_9 h rfl rfl k.1 dJ5_grow_2_33 ?_
  replace k := k.2
  refine gx_iload_n h 0 rfl dJ5_grow_2_36 ?_
  obtain ⟨c37, s37, hb37, k⟩ := k
  refine gcc_J5_66 (a0 := gc_R σ27 1201 a0) (a1 := r27) h rfl ⟨Nat.le_refl _, Nat.le_refl _⟩ hb37 (Nat.le_of_ble_eq_true rfl) dJ5_grow_2_37 (gx_C.mono k ?_)
  rintro _ σ37 ⟨r37, rfl, k⟩
  refine ⟨r37, rfl, ?_⟩
  refine gx_dup_x1 h (gx_cat _) rfl dJ5_grow_2_40 ?_
  refine gcp_J5_9 (v := r37) h rfl rfl k.1 dJ5_grow_2_41 ?_
  generalize hz : gc_sR σ37 1201 a0 r37 = σ41
  replace k := k.2 σ41 hz.symm
  exact gx_aret (r := r37) h rfl (Or.inr ⟨_, rfl⟩) dJ5_grow_2_44 (⟨_, rfl, k⟩)
/-! J5.remove -/
theorem ec_J5_remove {θ : gc_T} {P : Option Nat → gc_S → Prop} {σ : gc_S} {n : Nat} {a0 : Nat} {x1 : Int32} (body : ∀ K, gc_K θ K (nJ5_remove (n + 1)) → gc_G θ K (nJ5_remove (n + 1)) (gc_Pr P) 0 [(0, va_rf (some a0)), (1, .int x1)] [] σ 0 0) : gx_C (gc_O θ) (nJ5_remove (n + 1)) [.ref a0, .int x1] σ (gc_Pr P) :=
  gx_C.intro (gc_z_warm θ) rfl (Nat.le_of_ble_eq_true rfl) body
theorem bc_J5_remove_0 {θ : gc_T} {K : gx_K} {P : Option Nat → gc_S → Prop} {σ : gc_S} {x1 : Int32} {a0 n bc bs : Nat} (h : gc_K θ K (nJ5_remove (n + 1))) (k : gc_is σ a0 12 ∧ gx_C (gc_O θ) (nJ6_checkIndex n) [.int x1, .int (gc_I σ 1202 a0)] σ (gc_Pi (fun r5 σ5 => gc_is σ5 a0 12 ∧ ∃ a16_1 : Nat, gc_R σ5 1201 a0 = some a16_1 ∧ gc_is σ5 a16_1 20 ∧ vp_in x1 (gc_n σ5 a16_1) ∧ gc_is σ5 a0 12 ∧ gx_C (gc_O θ) (nJ5_fastRemove n) (.ref a0 :: [va_rf (gc_R σ5 1201 a0), .int x1]) σ5 (gc_Pv (fun σ21 => P (gc_Q σ5 a16_1 x1.toNatClampNeg) σ21))))) : gc_G θ K (nJ5_remove (n + 1)) (gc_Pr P) 0 [(0, va_rf (some a0)), (1, .int x1)] [] σ bc bs := by
  refine gx_iload_n h 1 rfl dJ5_remove_0 ?_
  refine gx_aload_nq (r := some a0) h 0 rfl dJ5_remove_1 ?_
  refine gcg_J5_48 h rfl rfl k.1 dJ5_remove_2 ?_
  replace k := k.2
  refine gcc_J5_118 (a0 := x1) (a1 := gc_I σ 1202 a0) h rfl ⟨Nat.le_refl _, Nat.le_refl _⟩ (Nat.le_of_ble_eq_true rfl) dJ5_remove_5 (gx_C.mono k ?_)
  rintro _ σ5 ⟨r5, rfl, k⟩
  refine ⟨r5, rfl, ?_⟩
  refine gx_pop h rfl dJ5_remove_8 ?_
  refine gx_aload_nq (r := some a0) h 0 rfl dJ5_remove_9 ?_
  refine gcg_J5_9 h rfl rfl k.1 dJ5_remove_10 ?_
  replace k := k.2
  refine gx_astore_nq (r := gc_R σ5 1201 a0) (L' := [(2, va_rf (gc_R σ5 1201 a0)), (0, va_rf (some a0)), (1, .int x1)]) h (Nat.le_of_ble_eq_true rfl) rfl dJ5_remove_13 ?_
  refine gx_aload_nq (r := gc_R σ5 1201 a0) h 0 rfl dJ5_remove_14 ?_
  refine gx_iload_n h 2 rfl dJ5_remove_15 ?_
  obtain ⟨a16_1, e16_1, k⟩ := k
  refine gc_aald20E (r := gc_R σ5 1201 a0) h e16_1 k.1 k.2.1 dJ5_remove_16 ?_
  replace k := k.2.2
  refine gx_astore_nq (r := gc_Q σ5 a16_1 x1.toNatClampNeg) (L' := [(3, va_rf (gc_Q σ5 a16_1 x1.toNatClampNeg)), (2, va_rf (gc_R σ5 1201 a0)), (0, va_rf (some a0)), (1, .int x1)]) h (Nat.le_of_ble_eq_true rfl) (by generalize gc_R σ5 1201 a0 = z; cases z <;> rfl) dJ5_remove_17 ?_
  refine gx_aload_nq (r := some a0) h 2 rfl dJ5_remove_18 ?_
  refine gx_aload_nq (r := gc_R σ5 1201 a0) h 1 rfl dJ5_remove_19 ?_
  refine gx_iload_n h 3 rfl dJ5_remove_20 ?_
  refine gcc_J5_144 (r := some a0) (a0 := gc_R σ5 1201 a0) (a1 := x1) h rfl ⟨Nat.le_refl _, Nat.le_refl _⟩ rfl k.1 (Nat.le_of_ble_eq_true rfl) dJ5_remove_21 (gx_C.mono k.2 ?_)
  rintro _ σ21 ⟨rfl, k⟩
  refine ⟨rfl, ?_⟩
  refine gx_aload_nq (r := gc_Q σ5 a16_1 x1.toNatClampNeg) h 0 rfl dJ5_remove_24 ?_
  exact gx_aret (r := gc_Q σ5 a16_1 x1.toNatClampNeg) h rfl (Or.inl ⟨_, rfl⟩) dJ5_remove_25 (⟨_, rfl, k⟩)
/-! J5.fastRemove -/
theorem ec_J5_fastRemove {θ : gc_T} {P : gc_S → Prop} {σ : gc_S} {n : Nat} {a0 : Nat} {x1 : Option Nat} {x2 : Int32} (body : ∀ K, gc_K θ K (nJ5_fastRemove (n + 1)) → gc_G θ K (nJ5_fastRemove (n + 1)) (gc_Pv P) 0 [(0, va_rf (some a0)), (1, va_rf x1), (2, .int x2)] [] σ 0 0) : gx_C (gc_O θ) (nJ5_fastRemove (n + 1)) [.ref a0, va_rf x1, .int x2] σ (gc_Pv P) := by
  refine gx_C.intro (gc_z_warm θ) rfl (by cases x1 <;> exact Nat.le_of_ble_eq_true rfl) (fun K h => ?_)
  have k := body K h
  cases x1 <;> exact k
theorem bc_J5_fastRemove_0 {θ : gc_T} {K : gx_K} {P : gc_S → Prop} {σ : gc_S} {x2 : Int32} {x1 : Option Nat} {a0 n bc bs : Nat} (h : gc_K θ K (nJ5_fastRemove (n + 1))) (k : gc_is σ a0 12 ∧ gc_is σ a0 12 ∧ ∀ σ7, σ7 = gc_sI σ 1200 a0 ((gc_I σ 1200 a0) + 1) → gc_is σ7 a0 12 ∧ ((((gc_I σ7 1202 a0) - 1) ≤ x2 → gc_G θ K (nJ5_fastRemove (n + 1)) (gc_Pv P) 34 [(0, va_rf (some a0)), (1, va_rf x1), (3, .int ((gc_I σ7 1202 a0) - 1))] [] σ7 bc bs) ∧ (¬ ((gc_I σ7 1202 a0) - 1) ≤ x2 → ∃ a31_1 : Nat, x1 = some a31_1 ∧ (gc_is σ7 a31_1 20 ∧ gc_is σ7 a31_1 20 ∧ ¬ (x2 + 1) < 0 ∧ ¬ x2 < 0 ∧ ¬ (((gc_I σ7 1202 a0) - 1) - x2) < 0 ∧ (x2 + 1).toNatClampNeg + (((gc_I σ7 1202 a0) - 1) - x2).toNatClampNeg ≤ gc_n σ7 a31_1 ∧ x2.toNatClampNeg + (((gc_I σ7 1202 a0) - 1) - x2).toNatClampNeg ≤ gc_n σ7 a31_1) ∧ (∀ j, j < (((gc_I σ7 1202 a0) - 1) - x2).toNatClampNeg → ∀ y, gc_Q σ7 a31_1 ((x2 + 1).toNatClampNeg + j) = some y → gc_isV θ σ7 y) ∧ ∀ σ31, σ31 = gc_cQ σ7 a31_1 a31_1 (x2 + 1).toNatClampNeg x2.toNatClampNeg (((gc_I σ7 1202 a0) - 1) - x2).toNatClampNeg → gc_G θ K (nJ5_fastRemove (n + 1)) (gc_Pv P) 34 [(0, va_rf (some a0)), (1, va_rf x1), (3, .int ((gc_I σ7 1202 a0) - 1))] [] σ31 bc bs))) : gc_G θ K (nJ5_fastRemove (n + 1)) (gc_Pv P) 0 [(0, va_rf (some a0)), (1, va_rf x1), (2, .int x2)] [] σ bc bs := by
  refine gx_aload_nq (r := some a0) h 0 rfl dJ5_fastRemove_0 ?_
  refine gx_dup h rfl dJ5_fastRemove_1 ?_
  refine gcg_J5_63 h rfl rfl k.1 dJ5_fastRemove_2 ?_
  replace k := k.2
  refine gx_iconst (v := 1) h dJ5_fastRemove_5 (by decide) ?_
  refine gx_iadd h dJ5_fastRemove_6 ?_
  refine gcp_J5_63 (v := (gc_I σ 1200 a0) + 1) h rfl rfl k.1 dJ5_fastRemove_7 ?_
  generalize hz : gc_sI σ 1200 a0 ((gc_I σ 1200 a0) + 1) = σ7
  replace k := k.2 σ7 hz.symm
  refine gx_aload_nq (r := some a0) h 0 rfl dJ5_fastRemove_10 ?_
  refine gcg_J5_48 h rfl rfl k.1 dJ5_fastRemove_11 ?_
  replace k := k.2
  refine gx_iconst (v := 1) h dJ5_fastRemove_14 (by decide) ?_
  refine gx_isub h dJ5_fastRemove_15 ?_
  refine gx_dup h rfl dJ5_fastRemove_16 ?_
  refine gx_istore_n (L' := [(3, .int ((gc_I σ7 1202 a0) - 1)), (0, va_rf (some a0)), (1, va_rf x1), (2, .int x2)]) h (Nat.le_of_ble_eq_true rfl) rfl dJ5_fastRemove_17 ?_
  refine gx_iload_n h 3 rfl dJ5_fastRemove_18 ?_
  refine gx_icmp_le (tgt := 34) h (by decide) dJ5_fastRemove_19 (fun c => ?_) (fun c => ?_)
  · replace k := k.1 c
    exact gx_sub [1, 2, 0] rfl k
  · replace k := k.2 c
    refine gx_aload_nq (r := x1) h 2 rfl dJ5_fastRemove_22 ?_
    refine gx_iload_n h 3 rfl dJ5_fastRemove_23 ?_
    refine gx_iconst (v := 1) h dJ5_fastRemove_24 (by decide) ?_
    refine gx_iadd h dJ5_fastRemove_25 ?_
    refine gx_aload_nq (r := x1) h 2 rfl dJ5_fastRemove_26 ?_
    refine gx_iload_n h 3 rfl dJ5_fastRemove_27 ?_
    refine gx_iload_n h 0 rfl dJ5_fastRemove_28 ?_
    refine gx_iload_n h 3 rfl dJ5_fastRemove_29 ?_
    refine gx_isub h dJ5_fastRemove_30 ?_
    obtain ⟨a31_1, e31_1, k⟩ := k
    refine gcc_J5_112 (N := n) (r0 := x1) (r := x1) (sp := x2 + 1) (dp := x2) (n := ((gc_I σ7 1202 a0) - 1) - x2) h rfl ⟨Nat.le_refl _, Nat.le_refl _⟩ e31_1 e31_1 k.1 k.2.1 (Nat.le_of_ble_eq_true rfl) dJ5_fastRemove_31 ?_
    generalize hz : gc_cQ σ7 a31_1 a31_1 (x2 + 1).toNatClampNeg x2.toNatClampNeg (((gc_I σ7 1202 a0) - 1) - x2).toNatClampNeg = σ31
    replace k := k.2.2 σ31 hz.symm
    exact gx_sub [1, 2, 0] rfl k
theorem bc_J5_fastRemove_34 {θ : gc_T} {K : gx_K} {P : gc_S → Prop} {σ : gc_S} {x3 : Int32} {x1 : Option Nat} {a0 n bc bs : Nat} (h : gc_K θ K (nJ5_fastRemove (n + 1))) (k : gc_is σ a0 12 ∧ ∀ σ38, σ38 = gc_sI σ 1202 a0 x3 → ∃ a42_1 : Nat, x1 = some a42_1 ∧ gc_is σ38 a42_1 20 ∧ vp_in x3 (gc_n σ38 a42_1) ∧ (∀ v, none = some v → gc_isV θ σ38 v) ∧ ∀ σ42, σ42 = gc_sQ σ38 a42_1 x3.toNatClampNeg none → P σ42) : gc_G θ K (nJ5_fastRemove (n + 1)) (gc_Pv P) 34 [(0, va_rf (some a0)), (1, va_rf x1), (3, .int x3)] [] σ bc bs := by
  refine gx_aload_nq (r := x1) h 1 rfl dJ5_fastRemove_34 ?_
  refine gx_aload_nq (r := some a0) h 0 rfl dJ5_fastRemove_35 ?_
  refine gx_iload_n h 2 rfl dJ5_fastRemove_36 ?_
  refine gx_dup_x1 h rfl rfl dJ5_fastRemove_37 ?_
  refine gcp_J5_48 (v := x3) h rfl rfl k.1 dJ5_fastRemove_38 ?_
  generalize hz : gc_sI σ 1202 a0 x3 = σ38
  replace k := k.2 σ38 hz.symm
  refine gx_null h dJ5_fastRemove_41 ?_
  obtain ⟨a42_1, e42_1, k⟩ := k
  refine gc_aast20E (r := x1) (w := none) h e42_1 k.1 k.2.1 k.2.2.1 dJ5_fastRemove_42 ?_
  generalize hz : gc_sQ σ38 a42_1 x3.toNatClampNeg none = σ42
  replace k := k.2.2.2 σ42 hz.symm
  exact gx_vret h rfl dJ5_fastRemove_43 (⟨rfl, k⟩)
/-! J5.add_3 -/
theorem ec_J5_add_3 {θ : gc_T} {P : gc_S → Prop} {σ : gc_S} {n c s : Nat} {a0 : Nat} {x1 : Int32} {x2 : Option Nat} (body : ∀ K, gc_K θ K (nJ5_add_3 (n + 1) c s) → gc_G θ K (nJ5_add_3 (n + 1) c s) (gc_Pv P) 0 [(0, va_rf (some a0)), (1, .int x1), (2, va_rf x2)] [] σ c s) : gx_C (gc_O θ) (nJ5_add_3 (n + 1) c s) [.ref a0, .int x1, va_rf x2] σ (gc_Pv P) := by
  refine gx_C.intro (gc_z_warm θ) rfl (by cases x2 <;> exact Nat.le_of_ble_eq_true rfl) (fun K h => ?_)
  have k := body K h
  cases x2 <;> exact k
theorem bc_J5_add_3_0 {θ : gc_T} {K : gx_K} {P : gc_S → Prop} {σ : gc_S} {x1 : Int32} {x2 : Option Nat} {a0 n c s bc bs : Nat} (h : gc_K θ K (nJ5_add_3 (n + 1) c s)) (k : gc_is σ a0 12 ∧ gx_C (gc_O θ) (nJ5_rangeCheckForAdd n) (.ref a0 :: [.int x1]) σ (gc_Pv (fun σ2 => gc_is σ2 a0 12 ∧ gc_is σ2 a0 12 ∧ ∀ σ12, σ12 = gc_sI σ2 1200 a0 ((gc_I σ2 1200 a0) + 1) → gc_is σ12 a0 12 ∧ gc_is σ12 a0 12 ∧ ∃ a28_1 : Nat, gc_R σ12 1201 a0 = some a28_1 ∧ gc_isO θ σ12 a28_1 ∧ (((gc_I σ12 1202 a0) = (Int32.ofNat (gc_n σ12 a28_1)) → ∃ c33 s33 : Nat, (c33 ≤ bc ∧ s33 ≤ bs) ∧ gc_is σ12 a0 12 ∧ gx_C (gc_O θ) (nJ5_grow n c33 s33) (.ref a0 :: []) σ12 (gc_Pr (fun r33 σ33 => gc_G θ K (nJ5_add_3 (n + 1) c s) (gc_Pv P) 38 [(0, va_rf (some a0)), (1, .int x1), (2, va_rf x2), (3, .int (gc_I σ12 1202 a0)), (4, va_rf r33)] [] σ33 (bc - c33) (bs - s33)))) ∧ (¬ (gc_I σ12 1202 a0) = (Int32.ofNat (gc_n σ12 a28_1)) → gc_G θ K (nJ5_add_3 (n + 1) c s) (gc_Pv P) 38 [(0, va_rf (some a0)), (1, .int x1), (2, va_rf x2), (3, .int (gc_I σ12 1202 a0)), (4, va_rf (gc_R σ12 1201 a0))] [] σ12 bc bs))))) : gc_G θ K (nJ5_add_3 (n + 1) c s) (gc_Pv P) 0 [(0, va_rf (some a0)), (1, .int x1), (2, va_rf x2)] [] σ bc bs := by
  refine gx_aload_nq (r := some a0) h 0 rfl dJ5_add_3_0 ?_
  refine gx_iload_n h 1 rfl dJ5_add_3_1 ?_
  refine gcc_J5_135 (r := some a0) (a0 := x1) h rfl ⟨Nat.le_refl _, Nat.le_refl _⟩ rfl k.1 (Nat.le_of_ble_eq_true rfl) dJ5_add_3_2 (gx_C.mono k.2 ?_)
  rintro _ σ2 ⟨rfl, k⟩
  refine ⟨rfl, ?_⟩
  refine gx_aload_nq (r := some a0) h 0 rfl dJ5_add_3_5 ?_
  refine gx_dup h rfl dJ5_add_3_6 ?_
  refine gcg_J5_63 h rfl rfl k.1 dJ5_add_3_7 ?_
  replace k := k.2
  refine gx_iconst (v := 1) h dJ5_add_3_10 (by decide) ?_
  refine gx_iadd h dJ5_add_3_11 ?_
  refine gcp_J5_63 (v := (gc_I σ2 1200 a0) + 1) h rfl rfl k.1 dJ5_add_3_12 ?_
  generalize hz : gc_sI σ2 1200 a0 ((gc_I σ2 1200 a0) + 1) = σ12
  replace k := k.2 σ12 hz.symm
  refine gx_aload_nq (r := some a0) h 0 rfl dJ5_add_3_15 ?_
  refine gcg_J5_48 h rfl rfl k.1 dJ5_add_3_16 ?_
  replace k := k.2
  refine gx_dup h rfl dJ5_add_3_19 ?_
  refine gx_istore_n (L' := [(3, .int (gc_I σ12 1202 a0)), (0, va_rf (some a0)), (1, .int x1), (2, va_rf x2)]) h (Nat.le_of_ble_eq_true rfl) (by generalize x2 = z; cases z <;> rfl) dJ5_add_3_20 ?_
  refine gx_aload_nq (r := some a0) h 1 rfl dJ5_add_3_21 ?_
  refine gcg_J5_9 h rfl rfl k.1 dJ5_add_3_22 ?_
  replace k := k.2
  refine gx_dup h (gx_cat _) dJ5_add_3_25 ?_
  refine gx_astoreq (r := gc_R σ12 1201 a0) (L' := [(4, va_rf (gc_R σ12 1201 a0)), (3, .int (gc_I σ12 1202 a0)), (0, va_rf (some a0)), (1, .int x1), (2, va_rf x2)]) h (Nat.le_of_ble_eq_true rfl) rfl dJ5_add_3_26 ?_
  obtain ⟨a28_1, e28_1, k⟩ := k
  refine gc_alen20E (r := gc_R σ12 1201 a0) h e28_1 k.1 dJ5_add_3_28 ?_
  replace k := k.2
  refine gx_icmp_ne (tgt := 38) h (by decide) dJ5_add_3_29 (fun c => ?_) (fun c => ?_)
  · replace k := k.2 c
    exact gx_sub [2, 3, 4, 1, 0] rfl k
  · replace k := k.1 c
    refine gx_aload_nq (r := some a0) h 2 rfl dJ5_add_3_32 ?_
    obtain ⟨c33, s33, hb33, k⟩ := k
    refine gcc_J5_129 (r := some a0)  h rfl ⟨Nat.le_refl _, Nat.le_refl _⟩ hb33 rfl k.1 (Nat.le_of_ble_eq_true rfl) dJ5_add_3_33 (gx_C.mono k.2 ?_)
    rintro _ σ33 ⟨r33, rfl, k⟩
    refine ⟨r33, rfl, ?_⟩
    refine gx_astoreq (r := r33) (L' := [(4, va_rf r33), (3, .int (gc_I σ12 1202 a0)), (0, va_rf (some a0)), (1, .int x1), (2, va_rf x2)]) h (Nat.le_of_ble_eq_true rfl) rfl dJ5_add_3_36 ?_
    exact gx_sub [2, 3, 4, 1, 0] rfl k
theorem bc_J5_add_3_38 {θ : gc_T} {K : gx_K} {P : gc_S → Prop} {σ : gc_S} {x1 x3 : Int32} {x2 x4 : Option Nat} {a0 n c s bc bs : Nat} (h : gc_K θ K (nJ5_add_3 (n + 1) c s)) (k : ∃ a49_1 : Nat, x4 = some a49_1 ∧ (gc_is σ a49_1 20 ∧ gc_is σ a49_1 20 ∧ ¬ x1 < 0 ∧ ¬ (x1 + 1) < 0 ∧ ¬ (x3 - x1) < 0 ∧ x1.toNatClampNeg + (x3 - x1).toNatClampNeg ≤ gc_n σ a49_1 ∧ (x1 + 1).toNatClampNeg + (x3 - x1).toNatClampNeg ≤ gc_n σ a49_1) ∧ (∀ j, j < (x3 - x1).toNatClampNeg → ∀ y, gc_Q σ a49_1 (x1.toNatClampNeg + j) = some y → gc_isV θ σ y) ∧ ∀ σ49, σ49 = gc_cQ σ a49_1 a49_1 x1.toNatClampNeg (x1 + 1).toNatClampNeg (x3 - x1).toNatClampNeg → gc_is σ49 a49_1 20 ∧ vp_in x1 (gc_n σ49 a49_1) ∧ (∀ v, x2 = some v → gc_isV θ σ49 v) ∧ ∀ σ56, σ56 = gc_sQ σ49 a49_1 x1.toNatClampNeg x2 → gc_is σ56 a0 12 ∧ ∀ σ61, σ61 = gc_sI σ56 1202 a0 (x3 + 1) → P σ61) : gc_G θ K (nJ5_add_3 (n + 1) c s) (gc_Pv P) 38 [(0, va_rf (some a0)), (1, .int x1), (2, va_rf x2), (3, .int x3), (4, va_rf x4)] [] σ bc bs := by
  refine gx_aloadq (r := x4) h 4 rfl dJ5_add_3_38 ?_
  refine gx_iload_n h 1 rfl dJ5_add_3_40 ?_
  refine gx_aloadq (r := x4) h 4 rfl dJ5_add_3_41 ?_
  refine gx_iload_n h 1 rfl dJ5_add_3_43 ?_
  refine gx_iconst (v := 1) h dJ5_add_3_44 (by decide) ?_
  refine gx_iadd h dJ5_add_3_45 ?_
  refine gx_iload_n h 3 rfl dJ5_add_3_46 ?_
  refine gx_iload_n h 1 rfl dJ5_add_3_47 ?_
  refine gx_isub h dJ5_add_3_48 ?_
  obtain ⟨a49_1, e49_1, k⟩ := k
  refine gcc_J5_112 (N := n) (r0 := x4) (r := x4) (sp := x1) (dp := x1 + 1) (n := x3 - x1) h rfl ⟨Nat.le_refl _, Nat.le_refl _⟩ e49_1 e49_1 k.1 k.2.1 (Nat.le_of_ble_eq_true rfl) dJ5_add_3_49 ?_
  generalize hz : gc_cQ σ a49_1 a49_1 x1.toNatClampNeg (x1 + 1).toNatClampNeg (x3 - x1).toNatClampNeg = σ49
  replace k := k.2.2 σ49 hz.symm
  refine gx_aloadq (r := x4) h 4 rfl dJ5_add_3_52 ?_
  refine gx_iload_n h 1 rfl dJ5_add_3_54 ?_
  refine gx_aload_nq (r := x2) h 2 rfl dJ5_add_3_55 ?_
  refine gc_aast20E (r := x4) (w := x2) h e49_1 k.1 k.2.1 k.2.2.1 dJ5_add_3_56 ?_
  generalize hz : gc_sQ σ49 a49_1 x1.toNatClampNeg x2 = σ56
  replace k := k.2.2.2 σ56 hz.symm
  refine gx_aload_nq (r := some a0) h 0 rfl dJ5_add_3_57 ?_
  refine gx_iload_n h 3 rfl dJ5_add_3_58 ?_
  refine gx_iconst (v := 1) h dJ5_add_3_59 (by decide) ?_
  refine gx_iadd h dJ5_add_3_60 ?_
  refine gcp_J5_48 (v := x3 + 1) h rfl rfl k.1 dJ5_add_3_61 ?_
  generalize hz : gc_sI σ56 1202 a0 (x3 + 1) = σ61
  replace k := k.2 σ61 hz.symm
  exact gx_vret h rfl dJ5_add_3_64 (⟨rfl, k⟩)
/-! J5.rangeCheckForAdd -/
theorem ec_J5_rangeCheckForAdd {θ : gc_T} {P : gc_S → Prop} {σ : gc_S} {n : Nat} {a0 : Nat} {x1 : Int32} (body : ∀ K, gc_K θ K (nJ5_rangeCheckForAdd (n + 1)) → gc_G θ K (nJ5_rangeCheckForAdd (n + 1)) (gc_Pv P) 0 [(0, va_rf (some a0)), (1, .int x1)] [] σ 0 0) : gx_C (gc_O θ) (nJ5_rangeCheckForAdd (n + 1)) [.ref a0, .int x1] σ (gc_Pv P) :=
  gx_C.intro (gc_z_warm θ) rfl (Nat.le_of_ble_eq_true rfl) body
theorem bc_J5_rangeCheckForAdd_0 {θ : gc_T} {K : gx_K} {P : gc_S → Prop} {σ : gc_S} {x1 : Int32} {a0 n bc bs : Nat} (h : gc_K θ K (nJ5_rangeCheckForAdd (n + 1))) (k : gc_is σ a0 12 ∧ (((gc_I σ 1202 a0) < x1 → gc_G θ K (nJ5_rangeCheckForAdd (n + 1)) (gc_Pv P) 12 [(0, va_rf (some a0)), (1, .int x1)] [] σ bc bs) ∧ (¬ (gc_I σ 1202 a0) < x1 → ((0 ≤ x1 → P σ) ∧ (¬ 0 ≤ x1 → gc_G θ K (nJ5_rangeCheckForAdd (n + 1)) (gc_Pv P) 12 [(0, va_rf (some a0)), (1, .int x1)] [] σ bc bs))))) : gc_G θ K (nJ5_rangeCheckForAdd (n + 1)) (gc_Pv P) 0 [(0, va_rf (some a0)), (1, .int x1)] [] σ bc bs := by
  refine gx_iload_n h 1 rfl dJ5_rangeCheckForAdd_0 ?_
  refine gx_aload_nq (r := some a0) h 0 rfl dJ5_rangeCheckForAdd_1 ?_
  refine gcg_J5_48 h rfl rfl k.1 dJ5_rangeCheckForAdd_2 ?_
  replace k := k.2
  refine gx_icmp_gt (tgt := 12) h (by decide) dJ5_rangeCheckForAdd_5 (fun c => ?_) (fun c => ?_)
  · replace k := k.1 c
    exact k
  · replace k := k.2 c
    refine gx_iload_n h 1 rfl dJ5_rangeCheckForAdd_8 ?_
    refine gx_if_ge (tgt := 25) h (by decide) dJ5_rangeCheckForAdd_9 (fun c => ?_) (fun c => ?_)
    · replace k := k.1 c
      exact gx_vret h rfl dJ5_rangeCheckForAdd_25 (⟨rfl, k⟩)
    · replace k := k.2 c
      exact k
theorem bc_J5_rangeCheckForAdd_12 {θ : gc_T} {K : gx_K} {P : gc_S → Prop} {σ : gc_S} {x1 : Int32} {a0 n bc bs : Nat} (h : gc_K θ K (nJ5_rangeCheckForAdd (n + 1))) (k : False) : gc_G θ K (nJ5_rangeCheckForAdd (n + 1)) (gc_Pv P) 12 [(0, va_rf (some a0)), (1, .int x1)] [] σ bc bs := by
  exact k.elim
/-! J5.indexOf -/
theorem ec_J5_indexOf {θ : gc_T} {P : Int32 → gc_S → Prop} {σ : gc_S} {n : Nat} {a0 : Nat} {x1 : Option Nat} (body : ∀ K, gc_K θ K (nJ5_indexOf (n + 1)) → gc_G θ K (nJ5_indexOf (n + 1)) (gc_Pi P) 0 [(0, va_rf (some a0)), (1, va_rf x1)] [] σ 0 0) : gx_C (gc_O θ) (nJ5_indexOf (n + 1)) [.ref a0, va_rf x1] σ (gc_Pi P) := by
  refine gx_C.intro (gc_z_warm θ) rfl (by cases x1 <;> exact Nat.le_of_ble_eq_true rfl) (fun K h => ?_)
  have k := body K h
  cases x1 <;> exact k
theorem bc_J5_indexOf_0 {θ : gc_T} {K : gx_K} {P : Int32 → gc_S → Prop} {σ : gc_S} {x1 : Option Nat} {a0 n bc bs : Nat} (h : gc_K θ K (nJ5_indexOf (n + 1))) (k : gc_is σ a0 12 ∧ gc_is σ a0 12 ∧ gx_C (gc_O θ) (nJ5_indexOfRange n) (.ref a0 :: [va_rf x1, .int 0, .int (gc_I σ 1202 a0)]) σ (gc_Pi (fun r7 σ7 => P r7 σ7))) : gc_G θ K (nJ5_indexOf (n + 1)) (gc_Pi P) 0 [(0, va_rf (some a0)), (1, va_rf x1)] [] σ bc bs := by
  refine gx_aload_nq (r := some a0) h 0 rfl dJ5_indexOf_0 ?_
  refine gx_aload_nq (r := x1) h 1 rfl dJ5_indexOf_1 ?_
  refine gx_iconst (v := 0) h dJ5_indexOf_2 (by decide) ?_
  refine gx_aload_nq (r := some a0) h 0 rfl dJ5_indexOf_3 ?_
  refine gcg_J5_48 h rfl rfl k.1 dJ5_indexOf_4 ?_
  replace k := k.2
  refine gcc_J5_89 (r := some a0) (a0 := x1) (a1 := 0) (a2 := gc_I σ 1202 a0) h rfl ⟨Nat.le_refl _, Nat.le_refl _⟩ rfl k.1 (Nat.le_of_ble_eq_true rfl) dJ5_indexOf_7 (gx_C.mono k.2 ?_)
  rintro _ σ7 ⟨r7, rfl, k⟩
  refine ⟨r7, rfl, ?_⟩
  exact gx_iret h rfl dJ5_indexOf_10 (⟨_, rfl, k⟩)
/-! J5.indexOfRange -/
theorem ec_J5_indexOfRange {θ : gc_T} {P : Int32 → gc_S → Prop} {σ : gc_S} {n : Nat} {a0 : Nat} {x1 : Option Nat} {x2 : Int32} {x3 : Int32} (body : ∀ K, gc_K θ K (nJ5_indexOfRange (n + 1)) → gc_G θ K (nJ5_indexOfRange (n + 1)) (gc_Pi P) 0 [(0, va_rf (some a0)), (1, va_rf x1), (2, .int x2), (3, .int x3)] [] σ 0 0) : gx_C (gc_O θ) (nJ5_indexOfRange (n + 1)) [.ref a0, va_rf x1, .int x2, .int x3] σ (gc_Pi P) := by
  refine gx_C.intro (gc_z_warm θ) rfl (by cases x1 <;> exact Nat.le_of_ble_eq_true rfl) (fun K h => ?_)
  have k := body K h
  cases x1 <;> exact k
theorem bc_J5_indexOfRange_0 {θ : gc_T} {K : gx_K} {P : Int32 → gc_S → Prop} {σ : gc_S} {x2 x3 : Int32} {x1 : Option Nat} {a0 n bc bs : Nat} (h : gc_K θ K (nJ5_indexOfRange (n + 1))) (k : gc_is σ a0 12 ∧ ((x1 = none → gc_G θ K (nJ5_indexOfRange (n + 1)) (gc_Pi P) 13 [(3, .int x3), (4, va_rf (gc_R σ 1201 a0)), (5, .int x2)] [] σ bc bs) ∧ (¬ x1 = none → gc_G θ K (nJ5_indexOfRange (n + 1)) (gc_Pi P) 42 [(1, va_rf x1), (3, .int x3), (4, va_rf (gc_R σ 1201 a0)), (5, .int x2)] [] σ bc bs))) : gc_G θ K (nJ5_indexOfRange (n + 1)) (gc_Pi P) 0 [(0, va_rf (some a0)), (1, va_rf x1), (2, .int x2), (3, .int x3)] [] σ bc bs := by
  refine gx_aload_nq (r := some a0) h 0 rfl dJ5_indexOfRange_0 ?_
  refine gcg_J5_9 h rfl rfl k.1 dJ5_indexOfRange_1 ?_
  replace k := k.2
  refine gx_astoreq (r := gc_R σ 1201 a0) (L' := [(4, va_rf (gc_R σ 1201 a0)), (0, va_rf (some a0)), (1, va_rf x1), (2, .int x2), (3, .int x3)]) h (Nat.le_of_ble_eq_true rfl) rfl dJ5_indexOfRange_4 ?_
  refine gx_aload_nq (r := x1) h 2 rfl dJ5_indexOfRange_6 ?_
  refine gx_ifnonnull (r := x1) (tgt := 39) h (by decide) dJ5_indexOfRange_7 (fun c => ?_) (fun c => ?_)
  · replace k := k.2 c
    refine gx_iload_n h 3 rfl dJ5_indexOfRange_39 ?_
    refine gx_istore (L' := [(5, .int x2), (4, va_rf (gc_R σ 1201 a0)), (0, va_rf (some a0)), (1, va_rf x1), (2, .int x2), (3, .int x3)]) h (Nat.le_of_ble_eq_true rfl) (by generalize gc_R σ 1201 a0 = z; cases z <;> rfl) dJ5_indexOfRange_40 ?_
    exact gx_sub [3, 5, 1, 0] rfl k
  · replace k := k.1 c
    refine gx_iload_n h 3 rfl dJ5_indexOfRange_10 ?_
    refine gx_istore (L' := [(5, .int x2), (4, va_rf (gc_R σ 1201 a0)), (0, va_rf (some a0)), (1, va_rf x1), (2, .int x2), (3, .int x3)]) h (Nat.le_of_ble_eq_true rfl) (by generalize gc_R σ 1201 a0 = z; cases z <;> rfl) dJ5_indexOfRange_11 ?_
    exact gx_sub [5, 1, 0] rfl k
theorem bc_J5_indexOfRange_13 {θ : gc_T} {K : gx_K} {P : Int32 → gc_S → Prop} {σ : gc_S} {x3 x5 : Int32} {x4 : Option Nat} {n bc bs : Nat} (h : gc_K θ K (nJ5_indexOfRange (n + 1))) (k : ((x3 ≤ x5 → gc_G θ K (nJ5_indexOfRange (n + 1)) (gc_Pi P) 69 [] [] σ bc bs) ∧ (¬ x3 ≤ x5 → ∃ a23_1 : Nat, x4 = some a23_1 ∧ gc_is σ a23_1 20 ∧ vp_in x5 (gc_n σ a23_1) ∧ ((gc_Q σ a23_1 x5.toNatClampNeg = none → P x5 σ) ∧ (¬ gc_Q σ a23_1 x5.toNatClampNeg = none → gc_G θ K (nJ5_indexOfRange (n + 1)) (gc_Pi P) 13 [(3, .int x3), (4, va_rf x4), (5, .int (x5 + 1))] [] σ bc bs))))) : gc_G θ K (nJ5_indexOfRange (n + 1)) (gc_Pi P) 13 [(3, .int x3), (4, va_rf x4), (5, .int x5)] [] σ bc bs := by
  refine gx_iload h 2 rfl dJ5_indexOfRange_13 ?_
  refine gx_iload_n h 0 rfl dJ5_indexOfRange_15 ?_
  refine gx_icmp_ge (tgt := 36) h (by decide) dJ5_indexOfRange_16 (fun c => ?_) (fun c => ?_)
  · replace k := k.1 c
    refine gx_goto (tgt := 69) h (by decide) dJ5_indexOfRange_36 ?_
    exact gx_sub [] rfl k
  · replace k := k.2 c
    refine gx_aloadq (r := x4) h 1 rfl dJ5_indexOfRange_19 ?_
    refine gx_iload h 2 rfl dJ5_indexOfRange_21 ?_
    obtain ⟨a23_1, e23_1, k⟩ := k
    refine gc_aald20E (r := x4) h e23_1 k.1 k.2.1 dJ5_indexOfRange_23 ?_
    replace k := k.2.2
    refine gx_ifnonnull (r := gc_Q σ a23_1 x5.toNatClampNeg) (tgt := 30) h (by decide) dJ5_indexOfRange_24 (fun c => ?_) (fun c => ?_)
    · replace k := k.2 c
      refine gx_iinc (v := x5 + 1) (L' := [(5, .int (x5 + 1)), (3, .int x3), (4, va_rf x4)]) h 2 rfl rfl (Nat.le_of_ble_eq_true rfl) (by generalize x4 = z; cases z <;> rfl) dJ5_indexOfRange_30 ?_
      refine gx_goto (tgt := 13) h (by decide) dJ5_indexOfRange_33 ?_
      exact gx_sub [1, 2, 0] rfl k
    · replace k := k.1 c
      refine gx_iload h 2 rfl dJ5_indexOfRange_27 ?_
      exact gx_iret h rfl dJ5_indexOfRange_29 (⟨_, rfl, k⟩)
theorem bc_J5_indexOfRange_42 {θ : gc_T} {K : gx_K} {P : Int32 → gc_S → Prop} {σ : gc_S} {x3 x5 : Int32} {x1 x4 : Option Nat} {n bc bs : Nat} (h : gc_K θ K (nJ5_indexOfRange (n + 1))) (k : ((x3 ≤ x5 → gc_G θ K (nJ5_indexOfRange (n + 1)) (gc_Pi P) 69 [] [] σ bc bs) ∧ (¬ x3 ≤ x5 → ∃ a53_1 : Nat, x4 = some a53_1 ∧ gc_is σ a53_1 20 ∧ vp_in x5 (gc_n σ a53_1) ∧ ∃ a54_2 : Nat, x1 = some a54_2 ∧ gc_isN σ a54_2 ∧ (((if (gc_Q σ a53_1 x5.toNatClampNeg) = some a54_2 then (1 : Int32) else 0) = 0 → gc_G θ K (nJ5_indexOfRange (n + 1)) (gc_Pi P) 42 [(1, va_rf x1), (3, .int x3), (4, va_rf x4), (5, .int (x5 + 1))] [] σ bc bs) ∧ (¬ (if (gc_Q σ a53_1 x5.toNatClampNeg) = some a54_2 then (1 : Int32) else 0) = 0 → P x5 σ))))) : gc_G θ K (nJ5_indexOfRange (n + 1)) (gc_Pi P) 42 [(1, va_rf x1), (3, .int x3), (4, va_rf x4), (5, .int x5)] [] σ bc bs := by
  refine gx_iload h 3 rfl dJ5_indexOfRange_42 ?_
  refine gx_iload_n h 1 rfl dJ5_indexOfRange_44 ?_
  refine gx_icmp_ge (tgt := 69) h (by decide) dJ5_indexOfRange_45 (fun c => ?_) (fun c => ?_)
  · replace k := k.1 c
    exact gx_sub [] rfl k
  · replace k := k.2 c
    refine gx_aload_nq (r := x1) h 0 rfl dJ5_indexOfRange_48 ?_
    refine gx_aloadq (r := x4) h 2 rfl dJ5_indexOfRange_49 ?_
    refine gx_iload h 3 rfl dJ5_indexOfRange_51 ?_
    obtain ⟨a53_1, e53_1, k⟩ := k
    refine gc_aald20E (r := x4) h e53_1 k.1 k.2.1 dJ5_indexOfRange_53 ?_
    replace k := k.2.2
    obtain ⟨a54_2, e54_2, k⟩ := k
    refine gcc_J5_93 (n := n) (a0 := gc_Q σ a53_1 x5.toNatClampNeg) (r := x1) h rfl ⟨Nat.le_refl _, Nat.le_refl _⟩ e54_2 k.1 (Nat.le_of_ble_eq_true rfl) dJ5_indexOfRange_54 ?_
    replace k := k.2
    refine gx_if_eq (tgt := 63) h (by decide) dJ5_indexOfRange_57 (fun c => ?_) (fun c => ?_)
    · replace k := k.1 c
      refine gx_iinc (v := x5 + 1) (L' := [(5, .int (x5 + 1)), (1, va_rf x1), (3, .int x3), (4, va_rf x4)]) h 3 rfl rfl (Nat.le_of_ble_eq_true rfl) (by generalize x4 = z; cases z <;> rfl) dJ5_indexOfRange_63 ?_
      refine gx_goto (tgt := 42) h (by decide) dJ5_indexOfRange_66 ?_
      exact gx_sub [1, 2, 3, 0] rfl k
    · replace k := k.2 c
      refine gx_iload h 3 rfl dJ5_indexOfRange_60 ?_
      exact gx_iret h rfl dJ5_indexOfRange_62 (⟨_, rfl, k⟩)
theorem bc_J5_indexOfRange_69 {θ : gc_T} {K : gx_K} {P : Int32 → gc_S → Prop} {σ : gc_S} {n bc bs : Nat} (h : gc_K θ K (nJ5_indexOfRange (n + 1))) (k : P (-1) σ) : gc_G θ K (nJ5_indexOfRange (n + 1)) (gc_Pi P) 69 [] [] σ bc bs := by
  refine gx_iconst (v := (-1)) h dJ5_indexOfRange_69 (by decide) ?_
  exact gx_iret h rfl dJ5_indexOfRange_70 (⟨_, rfl, k⟩)
/-! J5.remove_2 -/
theorem ec_J5_remove_2 {θ : gc_T} {P : Int32 → gc_S → Prop} {σ : gc_S} {n : Nat} {a0 : Nat} {x1 : Option Nat} (body : ∀ K, gc_K θ K (nJ5_remove_2 (n + 1)) → gc_G θ K (nJ5_remove_2 (n + 1)) (gc_Pi P) 0 [(0, va_rf (some a0)), (1, va_rf x1)] [] σ 0 0) : gx_C (gc_O θ) (nJ5_remove_2 (n + 1)) [.ref a0, va_rf x1] σ (gc_Pi P) := by
  refine gx_C.intro (gc_z_warm θ) rfl (by cases x1 <;> exact Nat.le_of_ble_eq_true rfl) (fun K h => ?_)
  have k := body K h
  cases x1 <;> exact k
theorem bc_J5_remove_2_0 {θ : gc_T} {K : gx_K} {P : Int32 → gc_S → Prop} {σ : gc_S} {x1 : Option Nat} {a0 n bc bs : Nat} (h : gc_K θ K (nJ5_remove_2 (n + 1))) (k : gc_is σ a0 12 ∧ gc_is σ a0 12 ∧ ((x1 = none → gc_G θ K (nJ5_remove_2 (n + 1)) (gc_Pi P) 17 [(0, va_rf (some a0)), (2, va_rf (gc_R σ 1201 a0)), (3, .int (gc_I σ 1202 a0)), (4, .int 0)] [] σ bc bs) ∧ (¬ x1 = none → gc_G θ K (nJ5_remove_2 (n + 1)) (gc_Pi P) 39 [(0, va_rf (some a0)), (1, va_rf x1), (2, va_rf (gc_R σ 1201 a0)), (3, .int (gc_I σ 1202 a0)), (4, .int 0)] [] σ bc bs))) : gc_G θ K (nJ5_remove_2 (n + 1)) (gc_Pi P) 0 [(0, va_rf (some a0)), (1, va_rf x1)] [] σ bc bs := by
  refine gx_aload_nq (r := some a0) h 0 rfl dJ5_remove_2_0 ?_
  refine gcg_J5_9 h rfl rfl k.1 dJ5_remove_2_1 ?_
  replace k := k.2
  refine gx_astore_nq (r := gc_R σ 1201 a0) (L' := [(2, va_rf (gc_R σ 1201 a0)), (0, va_rf (some a0)), (1, va_rf x1)]) h (Nat.le_of_ble_eq_true rfl) (by generalize x1 = z; cases z <;> rfl) dJ5_remove_2_4 ?_
  refine gx_aload_nq (r := some a0) h 1 rfl dJ5_remove_2_5 ?_
  refine gcg_J5_48 h rfl rfl k.1 dJ5_remove_2_6 ?_
  replace k := k.2
  refine gx_istore_n (L' := [(3, .int (gc_I σ 1202 a0)), (2, va_rf (gc_R σ 1201 a0)), (0, va_rf (some a0)), (1, va_rf x1)]) h (Nat.le_of_ble_eq_true rfl) (by generalize gc_R σ 1201 a0 = z; cases z <;> rfl) dJ5_remove_2_9 ?_
  refine gx_iconst (v := 0) h dJ5_remove_2_10 (by decide) ?_
  refine gx_istore (L' := [(4, .int 0), (3, .int (gc_I σ 1202 a0)), (2, va_rf (gc_R σ 1201 a0)), (0, va_rf (some a0)), (1, va_rf x1)]) h (Nat.le_of_ble_eq_true rfl) rfl dJ5_remove_2_11 ?_
  refine gx_aload_nq (r := x1) h 4 rfl dJ5_remove_2_13 ?_
  refine gx_ifnonnull (r := x1) (tgt := 39) h (by decide) dJ5_remove_2_14 (fun c => ?_) (fun c => ?_)
  · replace k := k.2 c
    exact gx_sub [3, 4, 2, 1, 0] rfl k
  · replace k := k.1 c
    exact gx_sub [3, 2, 1, 0] rfl k
theorem bc_J5_remove_2_17 {θ : gc_T} {K : gx_K} {P : Int32 → gc_S → Prop} {σ : gc_S} {x3 x4 : Int32} {x2 : Option Nat} {a0 n bc bs : Nat} (h : gc_K θ K (nJ5_remove_2 (n + 1))) (k : ((x3 ≤ x4 → gc_G θ K (nJ5_remove_2 (n + 1)) (gc_Pi P) 65 [] [] σ bc bs) ∧ (¬ x3 ≤ x4 → ∃ a26_1 : Nat, x2 = some a26_1 ∧ gc_is σ a26_1 20 ∧ vp_in x4 (gc_n σ a26_1) ∧ ((gc_Q σ a26_1 x4.toNatClampNeg = none → gc_G θ K (nJ5_remove_2 (n + 1)) (gc_Pi P) 67 [(0, va_rf (some a0)), (2, va_rf x2), (4, .int x4)] [] σ bc bs) ∧ (¬ gc_Q σ a26_1 x4.toNatClampNeg = none → gc_G θ K (nJ5_remove_2 (n + 1)) (gc_Pi P) 17 [(0, va_rf (some a0)), (2, va_rf x2), (3, .int x3), (4, .int (x4 + 1))] [] σ bc bs))))) : gc_G θ K (nJ5_remove_2 (n + 1)) (gc_Pi P) 17 [(0, va_rf (some a0)), (2, va_rf x2), (3, .int x3), (4, .int x4)] [] σ bc bs := by
  refine gx_iload h 3 rfl dJ5_remove_2_17 ?_
  refine gx_iload_n h 2 rfl dJ5_remove_2_19 ?_
  refine gx_icmp_ge (tgt := 65) h (by decide) dJ5_remove_2_20 (fun c => ?_) (fun c => ?_)
  · replace k := k.1 c
    exact gx_sub [] rfl k
  · replace k := k.2 c
    refine gx_aload_nq (r := x2) h 1 rfl dJ5_remove_2_23 ?_
    refine gx_iload h 3 rfl dJ5_remove_2_24 ?_
    obtain ⟨a26_1, e26_1, k⟩ := k
    refine gc_aald20E (r := x2) h e26_1 k.1 k.2.1 dJ5_remove_2_26 ?_
    replace k := k.2.2
    refine gx_ifnonnull (r := gc_Q σ a26_1 x4.toNatClampNeg) (tgt := 33) h (by decide) dJ5_remove_2_27 (fun c => ?_) (fun c => ?_)
    · replace k := k.2 c
      refine gx_iinc (v := x4 + 1) (L' := [(4, .int (x4 + 1)), (0, va_rf (some a0)), (2, va_rf x2), (3, .int x3)]) h 3 rfl rfl (Nat.le_of_ble_eq_true rfl) rfl dJ5_remove_2_33 ?_
      refine gx_goto (tgt := 17) h (by decide) dJ5_remove_2_36 ?_
      exact gx_sub [1, 2, 3, 0] rfl k
    · replace k := k.1 c
      refine gx_goto (tgt := 67) h (by decide) dJ5_remove_2_30 ?_
      exact gx_sub [0, 1, 3] rfl k
theorem bc_J5_remove_2_39 {θ : gc_T} {K : gx_K} {P : Int32 → gc_S → Prop} {σ : gc_S} {x3 x4 : Int32} {x1 x2 : Option Nat} {a0 n bc bs : Nat} (h : gc_K θ K (nJ5_remove_2 (n + 1))) (k : ((x3 ≤ x4 → gc_G θ K (nJ5_remove_2 (n + 1)) (gc_Pi P) 65 [] [] σ bc bs) ∧ (¬ x3 ≤ x4 → ∃ a49_1 : Nat, x2 = some a49_1 ∧ gc_is σ a49_1 20 ∧ vp_in x4 (gc_n σ a49_1) ∧ ∃ a50_2 : Nat, x1 = some a50_2 ∧ gc_isN σ a50_2 ∧ (((if (gc_Q σ a49_1 x4.toNatClampNeg) = some a50_2 then (1 : Int32) else 0) = 0 → gc_G θ K (nJ5_remove_2 (n + 1)) (gc_Pi P) 39 [(0, va_rf (some a0)), (1, va_rf x1), (2, va_rf x2), (3, .int x3), (4, .int (x4 + 1))] [] σ bc bs) ∧ (¬ (if (gc_Q σ a49_1 x4.toNatClampNeg) = some a50_2 then (1 : Int32) else 0) = 0 → gc_G θ K (nJ5_remove_2 (n + 1)) (gc_Pi P) 67 [(0, va_rf (some a0)), (2, va_rf x2), (4, .int x4)] [] σ bc bs))))) : gc_G θ K (nJ5_remove_2 (n + 1)) (gc_Pi P) 39 [(0, va_rf (some a0)), (1, va_rf x1), (2, va_rf x2), (3, .int x3), (4, .int x4)] [] σ bc bs := by
  refine gx_iload h 4 rfl dJ5_remove_2_39 ?_
  refine gx_iload_n h 3 rfl dJ5_remove_2_41 ?_
  refine gx_icmp_ge (tgt := 65) h (by decide) dJ5_remove_2_42 (fun c => ?_) (fun c => ?_)
  · replace k := k.1 c
    exact gx_sub [] rfl k
  · replace k := k.2 c
    refine gx_aload_nq (r := x1) h 1 rfl dJ5_remove_2_45 ?_
    refine gx_aload_nq (r := x2) h 2 rfl dJ5_remove_2_46 ?_
    refine gx_iload h 4 rfl dJ5_remove_2_47 ?_
    obtain ⟨a49_1, e49_1, k⟩ := k
    refine gc_aald20E (r := x2) h e49_1 k.1 k.2.1 dJ5_remove_2_49 ?_
    replace k := k.2.2
    obtain ⟨a50_2, e50_2, k⟩ := k
    refine gcc_J5_93 (n := n) (a0 := gc_Q σ a49_1 x4.toNatClampNeg) (r := x1) h rfl ⟨Nat.le_refl _, Nat.le_refl _⟩ e50_2 k.1 (Nat.le_of_ble_eq_true rfl) dJ5_remove_2_50 ?_
    replace k := k.2
    refine gx_if_eq (tgt := 59) h (by decide) dJ5_remove_2_53 (fun c => ?_) (fun c => ?_)
    · replace k := k.1 c
      refine gx_iinc (v := x4 + 1) (L' := [(4, .int (x4 + 1)), (0, va_rf (some a0)), (1, va_rf x1), (2, va_rf x2), (3, .int x3)]) h 4 rfl rfl (Nat.le_of_ble_eq_true rfl) rfl dJ5_remove_2_59 ?_
      refine gx_goto (tgt := 39) h (by decide) dJ5_remove_2_62 ?_
      exact gx_sub [1, 2, 3, 4, 0] rfl k
    · replace k := k.2 c
      refine gx_goto (tgt := 67) h (by decide) dJ5_remove_2_56 ?_
      exact gx_sub [0, 2, 4] rfl k
theorem bc_J5_remove_2_65 {θ : gc_T} {K : gx_K} {P : Int32 → gc_S → Prop} {σ : gc_S} {n bc bs : Nat} (h : gc_K θ K (nJ5_remove_2 (n + 1))) (k : P 0 σ) : gc_G θ K (nJ5_remove_2 (n + 1)) (gc_Pi P) 65 [] [] σ bc bs := by
  refine gx_iconst (v := 0) h dJ5_remove_2_65 (by decide) ?_
  exact gx_zret h rfl rfl dJ5_remove_2_66 (⟨_, rfl, k⟩)
theorem bc_J5_remove_2_67 {θ : gc_T} {K : gx_K} {P : Int32 → gc_S → Prop} {σ : gc_S} {x4 : Int32} {x2 : Option Nat} {a0 n bc bs : Nat} (h : gc_K θ K (nJ5_remove_2 (n + 1))) (k : gc_is σ a0 12 ∧ gx_C (gc_O θ) (nJ5_fastRemove n) (.ref a0 :: [va_rf x2, .int x4]) σ (gc_Pv (fun σ71 => P 1 σ71))) : gc_G θ K (nJ5_remove_2 (n + 1)) (gc_Pi P) 67 [(0, va_rf (some a0)), (2, va_rf x2), (4, .int x4)] [] σ bc bs := by
  refine gx_aload_nq (r := some a0) h 0 rfl dJ5_remove_2_67 ?_
  refine gx_aload_nq (r := x2) h 1 rfl dJ5_remove_2_68 ?_
  refine gx_iload h 2 rfl dJ5_remove_2_69 ?_
  refine gcc_J5_144 (r := some a0) (a0 := x2) (a1 := x4) h rfl ⟨Nat.le_refl _, Nat.le_refl _⟩ rfl k.1 (Nat.le_of_ble_eq_true rfl) dJ5_remove_2_71 (gx_C.mono k.2 ?_)
  rintro _ σ71 ⟨rfl, k⟩
  refine ⟨rfl, ?_⟩
  refine gx_iconst (v := 1) h dJ5_remove_2_74 (by decide) ?_
  exact gx_zret h rfl rfl dJ5_remove_2_75 (⟨_, rfl, k⟩)
/-! J5.clear -/
theorem ec_J5_clear {θ : gc_T} {P : gc_S → Prop} {σ : gc_S} {n : Nat} {a0 : Nat} (body : ∀ K, gc_K θ K (nJ5_clear n) → gc_G θ K (nJ5_clear n) (gc_Pv P) 0 [(0, va_rf (some a0))] [] σ 0 0) : gx_C (gc_O θ) (nJ5_clear n) [.ref a0] σ (gc_Pv P) :=
  gx_C.intro (gc_z_warm θ) rfl (Nat.le_of_ble_eq_true rfl) body
theorem bc_J5_clear_0 {θ : gc_T} {K : gx_K} {P : gc_S → Prop} {σ : gc_S} {a0 n bc bs : Nat} (h : gc_K θ K (nJ5_clear n)) (k : gc_is σ a0 12 ∧ gc_is σ a0 12 ∧ ∀ σ7, σ7 = gc_sI σ 1200 a0 ((gc_I σ 1200 a0) + 1) → gc_is σ7 a0 12 ∧ gc_is σ7 a0 12 ∧ gc_is σ7 a0 12 ∧ ∀ σ23, σ23 = gc_sI σ7 1202 a0 0 → gc_G θ K (nJ5_clear n) (gc_Pv P) 27 [(1, va_rf (gc_R σ7 1201 a0)), (2, .int (gc_I σ7 1202 a0)), (3, .int 0)] [] σ23 bc bs) : gc_G θ K (nJ5_clear n) (gc_Pv P) 0 [(0, va_rf (some a0))] [] σ bc bs := by
  refine gx_aload_nq (r := some a0) h 0 rfl dJ5_clear_0 ?_
  refine gx_dup h rfl dJ5_clear_1 ?_
  refine gcg_J5_63 h rfl rfl k.1 dJ5_clear_2 ?_
  replace k := k.2
  refine gx_iconst (v := 1) h dJ5_clear_5 (by decide) ?_
  refine gx_iadd h dJ5_clear_6 ?_
  refine gcp_J5_63 (v := (gc_I σ 1200 a0) + 1) h rfl rfl k.1 dJ5_clear_7 ?_
  generalize hz : gc_sI σ 1200 a0 ((gc_I σ 1200 a0) + 1) = σ7
  replace k := k.2 σ7 hz.symm
  refine gx_aload_nq (r := some a0) h 0 rfl dJ5_clear_10 ?_
  refine gcg_J5_9 h rfl rfl k.1 dJ5_clear_11 ?_
  replace k := k.2
  refine gx_astore_nq (r := gc_R σ7 1201 a0) (L' := [(1, va_rf (gc_R σ7 1201 a0)), (0, va_rf (some a0))]) h (Nat.le_of_ble_eq_true rfl) rfl dJ5_clear_14 ?_
  refine gx_aload_nq (r := some a0) h 1 rfl dJ5_clear_15 ?_
  refine gcg_J5_48 h rfl rfl k.1 dJ5_clear_16 ?_
  replace k := k.2
  refine gx_istore_n (L' := [(2, .int (gc_I σ7 1202 a0)), (1, va_rf (gc_R σ7 1201 a0)), (0, va_rf (some a0))]) h (Nat.le_of_ble_eq_true rfl) (by generalize gc_R σ7 1201 a0 = z; cases z <;> rfl) dJ5_clear_19 ?_
  refine gx_aload_nq (r := some a0) h 2 rfl dJ5_clear_20 ?_
  refine gx_iconst (v := 0) h dJ5_clear_21 (by decide) ?_
  refine gx_dup_x1 h rfl rfl dJ5_clear_22 ?_
  refine gcp_J5_48 (v := 0) h rfl rfl k.1 dJ5_clear_23 ?_
  generalize hz : gc_sI σ7 1202 a0 0 = σ23
  replace k := k.2 σ23 hz.symm
  refine gx_istore_n (L' := [(3, .int 0), (2, .int (gc_I σ7 1202 a0)), (1, va_rf (gc_R σ7 1201 a0)), (0, va_rf (some a0))]) h (Nat.le_of_ble_eq_true rfl) rfl dJ5_clear_26 ?_
  exact gx_sub [2, 1, 0] rfl k
theorem bc_J5_clear_27 {θ : gc_T} {K : gx_K} {P : gc_S → Prop} {σ : gc_S} {x2 x3 : Int32} {x1 : Option Nat} {n bc bs : Nat} (h : gc_K θ K (nJ5_clear n)) (k : ((x2 ≤ x3 → P σ) ∧ (¬ x2 ≤ x3 → ∃ a35_1 : Nat, x1 = some a35_1 ∧ gc_is σ a35_1 20 ∧ vp_in x3 (gc_n σ a35_1) ∧ (∀ v, none = some v → gc_isV θ σ v) ∧ ∀ σ35, σ35 = gc_sQ σ a35_1 x3.toNatClampNeg none → gc_G θ K (nJ5_clear n) (gc_Pv P) 27 [(1, va_rf x1), (2, .int x2), (3, .int (x3 + 1))] [] σ35 bc bs))) : gc_G θ K (nJ5_clear n) (gc_Pv P) 27 [(1, va_rf x1), (2, .int x2), (3, .int x3)] [] σ bc bs := by
  refine gx_iload_n h 2 rfl dJ5_clear_27 ?_
  refine gx_iload_n h 1 rfl dJ5_clear_28 ?_
  refine gx_icmp_ge (tgt := 42) h (by decide) dJ5_clear_29 (fun c => ?_) (fun c => ?_)
  · replace k := k.1 c
    exact gx_vret h rfl dJ5_clear_42 (⟨rfl, k⟩)
  · replace k := k.2 c
    refine gx_aload_nq (r := x1) h 0 rfl dJ5_clear_32 ?_
    refine gx_iload_n h 2 rfl dJ5_clear_33 ?_
    refine gx_null h dJ5_clear_34 ?_
    obtain ⟨a35_1, e35_1, k⟩ := k
    refine gc_aast20E (r := x1) (w := none) h e35_1 k.1 k.2.1 k.2.2.1 dJ5_clear_35 ?_
    generalize hz : gc_sQ σ a35_1 x3.toNatClampNeg none = σ35
    replace k := k.2.2.2 σ35 hz.symm
    refine gx_iinc (v := x3 + 1) (L' := [(3, .int (x3 + 1)), (1, va_rf x1), (2, .int x2)]) h 2 rfl rfl (Nat.le_of_ble_eq_true rfl) rfl dJ5_clear_36 ?_
    refine gx_goto (tgt := 27) h (by decide) dJ5_clear_39 ?_
    exact gx_sub [1, 2, 0] rfl k
/-! J6.checkIndex -/
theorem ec_J6_checkIndex {θ : gc_T} {P : Int32 → gc_S → Prop} {σ : gc_S} {n : Nat} {x0 : Int32} {x1 : Int32} (body : ∀ K, gc_K θ K (nJ6_checkIndex (n + 1)) → gc_G θ K (nJ6_checkIndex (n + 1)) (gc_Pi P) 0 [(0, .int x0), (1, .int x1)] [] σ 0 0) : gx_C (gc_O θ) (nJ6_checkIndex (n + 1)) [.int x0, .int x1] σ (gc_Pi P) :=
  gx_C.intro (gc_z_warm θ) rfl (Nat.le_of_ble_eq_true rfl) body
theorem bc_J6_checkIndex_0 {θ : gc_T} {K : gx_K} {P : Int32 → gc_S → Prop} {σ : gc_S} {x0 x1 : Int32} {n bc bs : Nat} (h : gc_K θ K (nJ6_checkIndex (n + 1))) (k : gx_C (gc_O θ) (nJ7_checkIndex n) [.int x0, .int x1, va_rf none] σ (gc_Pi (fun r3 σ3 => P r3 σ3))) : gc_G θ K (nJ6_checkIndex (n + 1)) (gc_Pi P) 0 [(0, .int x0), (1, .int x1)] [] σ bc bs := by
  refine gx_iload_n h 0 rfl dJ6_checkIndex_0 ?_
  refine gx_iload_n h 1 rfl dJ6_checkIndex_1 ?_
  refine gx_null h dJ6_checkIndex_2 ?_
  refine gcc_J6_105 (a0 := x0) (a1 := x1) (a2 := none) h rfl ⟨Nat.le_refl _, Nat.le_refl _⟩ (Nat.le_of_ble_eq_true rfl) dJ6_checkIndex_3 (gx_C.mono k ?_)
  rintro _ σ3 ⟨r3, rfl, k⟩
  refine ⟨r3, rfl, ?_⟩
  exact gx_iret h rfl dJ6_checkIndex_6 (⟨_, rfl, k⟩)
/-! J7.checkIndex -/
theorem ec_J7_checkIndex {θ : gc_T} {P : Int32 → gc_S → Prop} {σ : gc_S} {n : Nat} {x0 : Int32} {x1 : Int32} {x2 : Option Nat} (body : ∀ K, gc_K θ K (nJ7_checkIndex (n + 1)) → gc_G θ K (nJ7_checkIndex (n + 1)) (gc_Pi P) 0 [(0, .int x0), (1, .int x1), (2, va_rf x2)] [] σ 0 0) : gx_C (gc_O θ) (nJ7_checkIndex (n + 1)) [.int x0, .int x1, va_rf x2] σ (gc_Pi P) := by
  refine gx_C.intro (gc_z_warm θ) rfl (by cases x2 <;> exact Nat.le_of_ble_eq_true rfl) (fun K h => ?_)
  have k := body K h
  cases x2 <;> exact k
theorem bc_J7_checkIndex_0 {θ : gc_T} {K : gx_K} {P : Int32 → gc_S → Prop} {σ : gc_S} {x0 x1 : Int32} {x2 : Option Nat} {n bc bs : Nat} (h : gc_K θ K (nJ7_checkIndex (n + 1))) (k : ((x0 < 0 → gc_G θ K (nJ7_checkIndex (n + 1)) (gc_Pi P) 9 [(0, .int x0), (1, .int x1), (2, va_rf x2)] [] σ bc bs) ∧ (¬ x0 < 0 → ((x0 < x1 → P x0 σ) ∧ (¬ x0 < x1 → gc_G θ K (nJ7_checkIndex (n + 1)) (gc_Pi P) 9 [(0, .int x0), (1, .int x1), (2, va_rf x2)] [] σ bc bs))))) : gc_G θ K (nJ7_checkIndex (n + 1)) (gc_Pi P) 0 [(0, .int x0), (1, .int x1), (2, va_rf x2)] [] σ bc bs := by
  refine gx_iload_n h 0 rfl dJ7_checkIndex_0 ?_
  refine gx_if_lt (tgt := 9) h (by decide) dJ7_checkIndex_1 (fun c => ?_) (fun c => ?_)
  · replace k := k.1 c
    exact k
  · replace k := k.2 c
    refine gx_iload_n h 0 rfl dJ7_checkIndex_4 ?_
    refine gx_iload_n h 1 rfl dJ7_checkIndex_5 ?_
    refine gx_icmp_lt (tgt := 16) h (by decide) dJ7_checkIndex_6 (fun c => ?_) (fun c => ?_)
    · replace k := k.1 c
      refine gx_iload_n h 0 rfl dJ7_checkIndex_16 ?_
      exact gx_iret h rfl dJ7_checkIndex_17 (⟨_, rfl, k⟩)
    · replace k := k.2 c
      exact k
theorem bc_J7_checkIndex_9 {θ : gc_T} {K : gx_K} {P : Int32 → gc_S → Prop} {σ : gc_S} {x0 x1 : Int32} {x2 : Option Nat} {n bc bs : Nat} (h : gc_K θ K (nJ7_checkIndex (n + 1))) (k : False) : gc_G θ K (nJ7_checkIndex (n + 1)) (gc_Pi P) 9 [(0, .int x0), (1, .int x1), (2, va_rf x2)] [] σ bc bs := by
  refine gx_aload_nq (r := x2) h 2 rfl dJ7_checkIndex_9 ?_
  refine gx_iload_n h 0 rfl dJ7_checkIndex_10 ?_
  refine gx_iload_n h 1 rfl dJ7_checkIndex_11 ?_
  exact k.elim
/-! J8.newLength -/
theorem ec_J8_newLength {θ : gc_T} {P : Int32 → gc_S → Prop} {σ : gc_S} {n : Nat} {x0 : Int32} {x1 : Int32} {x2 : Int32} (body : ∀ K, gc_K θ K (nJ8_newLength (n + 1)) → gc_G θ K (nJ8_newLength (n + 1)) (gc_Pi P) 0 [(0, .int x0), (1, .int x1), (2, .int x2)] [] σ 0 0) : gx_C (gc_O θ) (nJ8_newLength (n + 1)) [.int x0, .int x1, .int x2] σ (gc_Pi P) :=
  gx_C.intro (gc_z_warm θ) rfl (Nat.le_of_ble_eq_true rfl) body
theorem bc_J8_newLength_0 {θ : gc_T} {K : gx_K} {P : Int32 → gc_S → Prop} {σ : gc_S} {x0 x1 x2 : Int32} {n bc bs : Nat} (h : gc_K θ K (nJ8_newLength (n + 1))) (k : ∀ x3_7 : Int32, x3_7 = x0 + (if x1 < x2 then x2 else x1) → ((x3_7 ≤ (0 : Int32) → gc_G θ K (nJ8_newLength (n + 1)) (gc_Pi P) 21 [(0, .int x0), (1, .int x1)] [] σ bc bs) ∧ (¬ x3_7 ≤ (0 : Int32) → ((2147483639 < x3_7 → gc_G θ K (nJ8_newLength (n + 1)) (gc_Pi P) 21 [(0, .int x0), (1, .int x1)] [] σ bc bs) ∧ (¬ 2147483639 < x3_7 → P x3_7 σ))))) : gc_G θ K (nJ8_newLength (n + 1)) (gc_Pi P) 0 [(0, .int x0), (1, .int x1), (2, .int x2)] [] σ bc bs := by
  refine gx_iload_n h 0 rfl dJ8_newLength_0 ?_
  refine gx_iload_n h 1 rfl dJ8_newLength_1 ?_
  refine gx_iload_n h 2 rfl dJ8_newLength_2 ?_
  refine gcc_J8_194 (n := n) h rfl ⟨Nat.le_refl _, Nat.le_refl _⟩ (Nat.le_of_ble_eq_true rfl) dJ8_newLength_3 ?_
  refine gx_iadd h dJ8_newLength_6 ?_
  generalize hz : (x0 + (if x1 < x2 then x2 else x1)) = x3_7
  replace k := k x3_7 hz.symm
  refine gx_istore_n (L' := [(3, .int x3_7), (0, .int x0), (1, .int x1), (2, .int x2)]) h (Nat.le_of_ble_eq_true rfl) rfl dJ8_newLength_7 ?_
  refine gx_iconst (v := 0) h dJ8_newLength_8 (by decide) ?_
  refine gx_iload_n h 0 rfl dJ8_newLength_9 ?_
  refine gx_icmp_ge (tgt := 21) h (by decide) dJ8_newLength_10 (fun c => ?_) (fun c => ?_)
  · replace k := k.1 c
    exact gx_sub [1, 2] rfl k
  · replace k := k.2 c
    refine gx_iload_n h 0 rfl dJ8_newLength_13 ?_
    refine gx_ldc (v := 2147483639) h q652 dJ8_newLength_14 ?_
    refine gx_icmp_gt (tgt := 21) h (by decide) dJ8_newLength_16 (fun c => ?_) (fun c => ?_)
    · replace k := k.1 c
      exact gx_sub [1, 2] rfl k
    · replace k := k.2 c
      refine gx_iload_n h 0 rfl dJ8_newLength_19 ?_
      exact gx_iret h rfl dJ8_newLength_20 (⟨_, rfl, k⟩)
theorem bc_J8_newLength_21 {θ : gc_T} {K : gx_K} {P : Int32 → gc_S → Prop} {σ : gc_S} {x0 x1 : Int32} {n bc bs : Nat} (h : gc_K θ K (nJ8_newLength (n + 1))) (k : gx_C (gc_O θ) (nJ8_hugeLength n) [.int x0, .int x1] σ (gc_Pi (fun r23 σ23 => P r23 σ23))) : gc_G θ K (nJ8_newLength (n + 1)) (gc_Pi P) 21 [(0, .int x0), (1, .int x1)] [] σ bc bs := by
  refine gx_iload_n h 0 rfl dJ8_newLength_21 ?_
  refine gx_iload_n h 1 rfl dJ8_newLength_22 ?_
  refine gcc_J8_201 (a0 := x0) (a1 := x1) h rfl ⟨Nat.le_refl _, Nat.le_refl _⟩ (Nat.le_of_ble_eq_true rfl) dJ8_newLength_23 (gx_C.mono k ?_)
  rintro _ σ23 ⟨r23, rfl, k⟩
  refine ⟨r23, rfl, ?_⟩
  exact gx_iret h rfl dJ8_newLength_26 (⟨_, rfl, k⟩)
/-! J8.hugeLength -/
theorem ec_J8_hugeLength {θ : gc_T} {P : Int32 → gc_S → Prop} {σ : gc_S} {n : Nat} {x0 : Int32} {x1 : Int32} (body : ∀ K, gc_K θ K (nJ8_hugeLength (n + 1)) → gc_G θ K (nJ8_hugeLength (n + 1)) (gc_Pi P) 0 [(0, .int x0), (1, .int x1)] [] σ 0 0) : gx_C (gc_O θ) (nJ8_hugeLength (n + 1)) [.int x0, .int x1] σ (gc_Pi P) :=
  gx_C.intro (gc_z_warm θ) rfl (Nat.le_of_ble_eq_true rfl) body
theorem bc_J8_hugeLength_0 {θ : gc_T} {K : gx_K} {P : Int32 → gc_S → Prop} {σ : gc_S} {x0 x1 : Int32} {n bc bs : Nat} (h : gc_K θ K (nJ8_hugeLength (n + 1))) (k : ((0 ≤ (x0 + x1) → ((2147483639 < (x0 + x1) → P (x0 + x1) σ) ∧ (¬ 2147483639 < (x0 + x1) → P 2147483639 σ))) ∧ (¬ 0 ≤ (x0 + x1) → False))) : gc_G θ K (nJ8_hugeLength (n + 1)) (gc_Pi P) 0 [(0, .int x0), (1, .int x1)] [] σ bc bs := by
  refine gx_iload_n h 0 rfl dJ8_hugeLength_0 ?_
  refine gx_iload_n h 1 rfl dJ8_hugeLength_1 ?_
  refine gx_iadd h dJ8_hugeLength_2 ?_
  refine gx_istore_n (L' := [(2, .int (x0 + x1)), (0, .int x0), (1, .int x1)]) h (Nat.le_of_ble_eq_true rfl) rfl dJ8_hugeLength_3 ?_
  refine gx_iload_n h 0 rfl dJ8_hugeLength_4 ?_
  refine gx_if_ge (tgt := 49) h (by decide) dJ8_hugeLength_5 (fun c => ?_) (fun c => ?_)
  · replace k := k.1 c
    refine gx_iload_n h 0 rfl dJ8_hugeLength_49 ?_
    refine gx_ldc (v := 2147483639) h q652 dJ8_hugeLength_50 ?_
    refine gx_icmp_gt (tgt := 58) h (by decide) dJ8_hugeLength_52 (fun c => ?_) (fun c => ?_)
    · replace k := k.1 c
      refine gx_iload_n h 0 rfl dJ8_hugeLength_58 ?_
      exact gx_iret h rfl dJ8_hugeLength_59 (⟨_, rfl, k⟩)
    · replace k := k.2 c
      refine gx_ldc (v := 2147483639) h q652 dJ8_hugeLength_55 ?_
      exact gx_iret h rfl dJ8_hugeLength_57 (⟨_, rfl, k⟩)
  · replace k := k.2 c
    exact k.elim
/-! J10.copyOf -/
theorem ec_J10_copyOf {θ : gc_T} {P : Option Nat → gc_S → Prop} {σ : gc_S} {n c s : Nat} {x0 : Option Nat} {x1 : Int32} (body : ∀ K, gc_K θ K (nJ10_copyOf (n + 1) c s) → gc_G θ K (nJ10_copyOf (n + 1) c s) (gc_Pr P) 0 [(0, va_rf x0), (1, .int x1)] [] σ c s) : gx_C (gc_O θ) (nJ10_copyOf (n + 1) c s) [va_rf x0, .int x1] σ (gc_Pr P) := by
  refine gx_C.intro (gc_z_warm θ) rfl (by cases x0 <;> exact Nat.le_of_ble_eq_true rfl) (fun K h => ?_)
  have k := body K h
  cases x0 <;> exact k
theorem bc_J10_copyOf_0 {θ : gc_T} {K : gx_K} {P : Option Nat → gc_S → Prop} {σ : gc_S} {x1 : Int32} {x0 : Option Nat} {n c s bc bs : Nat} (h : gc_K θ K (nJ10_copyOf (n + 1) c s)) (k : ∃ a3_1 : Nat, x0 = some a3_1 ∧ gc_is σ a3_1 20 ∧ ∃ c6 s6 : Nat, (c6 ≤ bc ∧ s6 ≤ bs) ∧ gx_C (gc_O θ) (nJ10_copyOf_2 n c6 s6) [va_rf x0, .int x1, va_rf (some (gc_aM θ))] σ (gc_Pr (fun r6 σ6 => P r6 σ6))) : gc_G θ K (nJ10_copyOf (n + 1) c s) (gc_Pr P) 0 [(0, va_rf x0), (1, .int x1)] [] σ bc bs := by
  refine gx_aload_nq (r := x0) h 0 rfl dJ10_copyOf_0 ?_
  refine gx_iload_n h 1 rfl dJ10_copyOf_1 ?_
  refine gx_aload_nq (r := x0) h 0 rfl dJ10_copyOf_2 ?_
  obtain ⟨a3_1, e3_1, k⟩ := k
  refine gcc_J10_86 (n := n) (r := x0) h rfl ⟨Nat.le_refl _, Nat.le_refl _⟩ e3_1 k.1 (by simp only [List.map_cons, List.map_nil, List.sum_cons, List.sum_nil, gx_cat]; exact Nat.le_of_ble_eq_true rfl) dJ10_copyOf_3 ?_
  replace k := k.2
  obtain ⟨c6, s6, hb6, k⟩ := k
  refine gcc_J10_300 (a0 := x0) (a1 := x1) (a2 := some (gc_aM θ)) h rfl ⟨Nat.le_refl _, Nat.le_refl _⟩ hb6 (Nat.le_of_ble_eq_true rfl) dJ10_copyOf_6 (gx_C.mono k ?_)
  rintro _ σ6 ⟨r6, rfl, k⟩
  refine ⟨r6, rfl, ?_⟩
  exact gx_aret (r := r6) h rfl (Or.inr ⟨_, rfl⟩) dJ10_copyOf_9 (⟨_, rfl, k⟩)
/-! J10.copyOf_2 -/
theorem ec_J10_copyOf_2 {θ : gc_T} {P : Option Nat → gc_S → Prop} {σ : gc_S} {n c s : Nat} {x0 : Option Nat} {x1 : Int32} {x2 : Option Nat} (body : ∀ K, gc_K θ K (nJ10_copyOf_2 (n + 1) c s) → gc_G θ K (nJ10_copyOf_2 (n + 1) c s) (gc_Pr P) 0 [(0, va_rf x0), (1, .int x1), (2, va_rf x2)] [] σ c s) : gx_C (gc_O θ) (nJ10_copyOf_2 (n + 1) c s) [va_rf x0, .int x1, va_rf x2] σ (gc_Pr P) := by
  refine gx_C.intro (gc_z_warm θ) rfl (by cases x0 <;>  cases x2 <;> exact Nat.le_of_ble_eq_true rfl) (fun K h => ?_)
  have k := body K h
  cases x0 <;>  cases x2 <;> exact k
theorem bc_J10_copyOf_2_0 {θ : gc_T} {K : gx_K} {P : Option Nat → gc_S → Prop} {σ : gc_S} {x1 : Int32} {x0 x2 : Option Nat} {n c s bc bs : Nat} (h : gc_K θ K (nJ10_copyOf_2 (n + 1) c s)) (k : ((x2 = (some (gc_aM θ)) → ¬ x1 < 0 ∧ x1.toNatClampNeg ≤ 100000 ∧ 1 ≤ bc ∧ x1.toNatClampNeg ≤ bs ∧ ∀ q7, q7 ∉ gc_d σ → gc_A θ q7 → ∀ σ7, σ7 = gc_new σ q7 20 x1.toNatClampNeg → ∃ a30_1 : Nat, x0 = some a30_1 ∧ gc_isO θ σ7 a30_1 ∧ (gc_is σ7 a30_1 20 ∧ gc_is σ7 q7 20 ∧ ¬ (0 : Int32) < 0 ∧ ¬ (0 : Int32) < 0 ∧ ¬ (if x1 < (Int32.ofNat (gc_n σ7 a30_1)) then x1 else (Int32.ofNat (gc_n σ7 a30_1))) < 0 ∧ (0 : Int32).toNatClampNeg + (if x1 < (Int32.ofNat (gc_n σ7 a30_1)) then x1 else (Int32.ofNat (gc_n σ7 a30_1))).toNatClampNeg ≤ gc_n σ7 a30_1 ∧ (0 : Int32).toNatClampNeg + (if x1 < (Int32.ofNat (gc_n σ7 a30_1)) then x1 else (Int32.ofNat (gc_n σ7 a30_1))).toNatClampNeg ≤ gc_n σ7 q7) ∧ (∀ j, j < (if x1 < (Int32.ofNat (gc_n σ7 a30_1)) then x1 else (Int32.ofNat (gc_n σ7 a30_1))).toNatClampNeg → ∀ y, gc_Q σ7 a30_1 ((0 : Int32).toNatClampNeg + j) = some y → gc_isV θ σ7 y) ∧ ∀ σ35, σ35 = gc_cQ σ7 a30_1 q7 (0 : Int32).toNatClampNeg (0 : Int32).toNatClampNeg (if x1 < (Int32.ofNat (gc_n σ7 a30_1)) then x1 else (Int32.ofNat (gc_n σ7 a30_1))).toNatClampNeg → P (some q7) σ35) ∧ (¬ x2 = (some (gc_aM θ)) → False))) : gc_G θ K (nJ10_copyOf_2 (n + 1) c s) (gc_Pr P) 0 [(0, va_rf x0), (1, .int x1), (2, va_rf x2)] [] σ bc bs := by
  refine gx_aload_nq (r := x2) h 2 rfl dJ10_copyOf_2_0 ?_
  refine gc_ldcM h rfl q683 dJ10_copyOf_2_1 ?_
  refine gx_acmp_ne (u := x2) (v := (some (gc_aM θ))) (tgt := 13) h (by decide) dJ10_copyOf_2_3 (fun c => ?_) (fun c => ?_)
  · replace k := k.2 c
    refine gx_aload_nq (r := x2) h 2 rfl dJ10_copyOf_2_13 ?_
    exact k.elim
  · replace k := k.1 c
    refine gx_iload_n h 1 rfl dJ10_copyOf_2_6 ?_
    refine gc_newq (k := 20) (t := 6) (by decide) rfl h rfl q685 q684 k.1 k.2.1 dJ10_copyOf_2_7 k.2.2.1 k.2.2.2.1 (fun q7 hq hA => ?_)
    generalize hz : gc_new σ q7 20 x1.toNatClampNeg = σ7
    replace k := k.2.2.2.2 q7 hq hA σ7 hz.symm
    refine gx_goto (tgt := 24) h (by decide) dJ10_copyOf_2_10 ?_
    refine gx_astore_nq (r := some q7) (L' := [(3, va_rf (some q7)), (0, va_rf x0), (1, .int x1), (2, va_rf x2)]) h (Nat.le_of_ble_eq_true rfl) (by generalize x2 = z; cases z <;> rfl) dJ10_copyOf_2_24 ?_
    refine gx_aload_nq (r := x0) h 1 rfl dJ10_copyOf_2_25 ?_
    refine gx_iconst (v := 0) h dJ10_copyOf_2_26 (by decide) ?_
    refine gx_aload_nq (r := some q7) h 0 rfl dJ10_copyOf_2_27 ?_
    refine gx_iconst (v := 0) h dJ10_copyOf_2_28 (by decide) ?_
    refine gx_aload_nq (r := x0) h 1 rfl dJ10_copyOf_2_29 ?_
    obtain ⟨a30_1, e30_1, k⟩ := k
    refine gc_alen20E (r := x0) h e30_1 k.1 dJ10_copyOf_2_30 ?_
    replace k := k.2
    refine gx_iload_n h 2 rfl dJ10_copyOf_2_31 ?_
    refine gcc_J10_304 (n := n) h rfl ⟨Nat.le_refl _, Nat.le_refl _⟩ (by simp only [List.map_cons, List.map_nil, List.sum_cons, List.sum_nil, gx_cat]; exact Nat.le_of_ble_eq_true rfl) dJ10_copyOf_2_32 ?_
    refine gcc_J10_150 (N := n) (r0 := x0) (r := some q7) (sp := 0) (dp := 0) (n := (if x1 < (Int32.ofNat (gc_n σ7 a30_1)) then x1 else (Int32.ofNat (gc_n σ7 a30_1)))) h rfl ⟨Nat.le_refl _, Nat.le_refl _⟩ e30_1 rfl k.1 k.2.1 (Nat.le_of_ble_eq_true rfl) dJ10_copyOf_2_35 ?_
    generalize hz : gc_cQ σ7 a30_1 q7 (0 : Int32).toNatClampNeg (0 : Int32).toNatClampNeg (if x1 < (Int32.ofNat (gc_n σ7 a30_1)) then x1 else (Int32.ofNat (gc_n σ7 a30_1))).toNatClampNeg = σ35
    replace k := k.2.2 σ35 hz.symm
    refine gx_aload_nq (r := some q7) h 0 rfl dJ10_copyOf_2_38 ?_
    exact gx_aret (r := some q7) h rfl (Or.inr ⟨_, rfl⟩) dJ10_copyOf_2_39 (⟨_, rfl, k⟩)
/-! J16.intValue -/
theorem ec_J16_intValue {θ : gc_T} {P : Int32 → gc_S → Prop} {σ : gc_S} {n : Nat} {a0 : Nat} (body : ∀ K, gc_K θ K (nJ16_intValue n) → gc_G θ K (nJ16_intValue n) (gc_Pi P) 0 [(0, va_rf (some a0))] [] σ 0 0) : gx_C (gc_O θ) (nJ16_intValue n) [.ref a0] σ (gc_Pi P) :=
  gx_C.intro (gc_z_warm θ) rfl (Nat.le_of_ble_eq_true rfl) body
theorem bc_J16_intValue_0 {θ : gc_T} {K : gx_K} {P : Int32 → gc_S → Prop} {σ : gc_S} {a0 n bc bs : Nat} (h : gc_K θ K (nJ16_intValue n)) (k : gc_is σ a0 13 ∧ P (gc_I σ 1300 a0) σ) : gc_G θ K (nJ16_intValue n) (gc_Pi P) 0 [(0, va_rf (some a0))] [] σ bc bs := by
  refine gx_aload_nq (r := some a0) h 0 rfl dJ16_intValue_0 ?_
  refine gcg_J16_205 h rfl rfl k.1 dJ16_intValue_1 ?_
  replace k := k.2
  exact gx_iret h rfl dJ16_intValue_4 (⟨_, rfl, k⟩)
/-! J16.valueOf -/
theorem ec_J16_valueOf {θ : gc_T} {P : Option Nat → gc_S → Prop} {σ : gc_S} {n c s : Nat} {x0 : Int32} (body : ∀ K, gc_K θ K (nJ16_valueOf (n + 1) c s) → gc_G θ K (nJ16_valueOf (n + 1) c s) (gc_Pr P) 0 [(0, .int x0)] [] σ c s) : gx_C (gc_O θ) (nJ16_valueOf (n + 1) c s) [.int x0] σ (gc_Pr P) :=
  gx_C.intro (gc_z_warm θ) rfl (Nat.le_of_ble_eq_true rfl) body
theorem bc_J16_valueOf_0 {θ : gc_T} {K : gx_K} {P : Option Nat → gc_S → Prop} {σ : gc_S} {x0 : Int32} {n c s bc bs : Nat} (h : gc_K θ K (nJ16_valueOf (n + 1) c s)) (k : ((x0 < (-128) → gc_G θ K (nJ16_valueOf (n + 1) c s) (gc_Pr P) 23 [(0, .int x0)] [] σ bc bs) ∧ (¬ x0 < (-128) → ((127 < x0 → gc_G θ K (nJ16_valueOf (n + 1) c s) (gc_Pr P) 23 [(0, .int x0)] [] σ bc bs) ∧ (¬ 127 < x0 → vp_in (x0 + 128) 256 ∧ P (some (gc_ch θ (x0 + 128).toNatClampNeg)) σ))))) : gc_G θ K (nJ16_valueOf (n + 1) c s) (gc_Pr P) 0 [(0, .int x0)] [] σ bc bs := by
  refine gx_iload_n h 0 rfl dJ16_valueOf_0 ?_
  refine gx_bipush (v := (-128)) h dJ16_valueOf_1 (by decide) ?_
  refine gx_icmp_lt (tgt := 23) h (by decide) dJ16_valueOf_3 (fun c => ?_) (fun c => ?_)
  · replace k := k.1 c
    exact k
  · replace k := k.2 c
    refine gx_iload_n h 0 rfl dJ16_valueOf_6 ?_
    refine gc_high h rfl q1219 dJ16_valueOf_7 ?_
    refine gx_icmp_gt (tgt := 23) h (by decide) dJ16_valueOf_10 (fun c => ?_) (fun c => ?_)
    · replace k := k.1 c
      exact k
    · replace k := k.2 c
      refine gc_cache h rfl q1221 dJ16_valueOf_13 ?_
      refine gx_iload_n h 0 rfl dJ16_valueOf_16 ?_
      refine gx_sipush (v := 128) h dJ16_valueOf_17 (by decide) ?_
      refine gx_iadd h dJ16_valueOf_20 ?_
      refine gc_aaldC h k.1 dJ16_valueOf_21 ?_
      replace k := k.2
      exact gx_aret (r := some (gc_ch θ (x0 + 128).toNatClampNeg)) h rfl (Or.inl ⟨_, rfl⟩) dJ16_valueOf_22 (⟨_, rfl, k⟩)
theorem bc_J16_valueOf_23 {θ : gc_T} {K : gx_K} {P : Option Nat → gc_S → Prop} {σ : gc_S} {x0 : Int32} {n c s bc bs : Nat} (h : gc_K θ K (nJ16_valueOf (n + 1) c s)) (k : 1 ≤ bc ∧ 1 ≤ bs ∧ ∀ q23, q23 ∉ gc_d σ → gc_A θ q23 → ∀ σ23, σ23 = gc_new σ q23 13 0 → gx_C (gc_O θ) (nJ16_init n) (.ref q23 :: [.int x0]) σ23 (gc_Pv (fun σ28 => P (some q23) σ28))) : gc_G θ K (nJ16_valueOf (n + 1) c s) (gc_Pr P) 23 [(0, .int x0)] [] σ bc bs := by
  refine gc_obj (k := 13) (C := RJ16) (T := TJ16) (N := 1) rfl (by decide) rfl in_J16 tyJ16_ok nd_J16 h rfl q1013 q1223 q97 dJ16_valueOf_23 k.1 k.2.1 (fun q23 hq hA => ?_)
  generalize hz : gc_new σ q23 13 0 = σ23
  replace k := k.2.2 q23 hq hA σ23 hz.symm
  refine gx_dup h rfl dJ16_valueOf_26 ?_
  refine gx_iload_n h 0 rfl dJ16_valueOf_27 ?_
  refine gcc_J16_199 (r := some q23) (a0 := x0) h rfl ⟨Nat.le_refl _, Nat.le_refl _⟩ rfl (Nat.le_of_ble_eq_true rfl) dJ16_valueOf_28 (gx_C.mono k ?_)
  rintro _ σ28 ⟨rfl, k⟩
  refine ⟨rfl, ?_⟩
  exact gx_aret (r := some q23) h rfl (Or.inl ⟨_, rfl⟩) dJ16_valueOf_31 (⟨_, rfl, k⟩)
/-! J16.init -/
theorem ec_J16_init {θ : gc_T} {P : gc_S → Prop} {σ : gc_S} {n : Nat} {a0 : Nat} {x1 : Int32} (body : ∀ K, gc_K θ K (nJ16_init (n + 1)) → gc_G θ K (nJ16_init (n + 1)) (gc_Pv P) 0 [(0, va_rf (some a0)), (1, .int x1)] [] σ 0 0) : gx_C (gc_O θ) (nJ16_init (n + 1)) [.ref a0, .int x1] σ (gc_Pv P) :=
  gx_C.intro (gc_z_warm θ) rfl (Nat.le_of_ble_eq_true rfl) body
theorem bc_J16_init_0 {θ : gc_T} {K : gx_K} {P : gc_S → Prop} {σ : gc_S} {x1 : Int32} {a0 n bc bs : Nat} (h : gc_K θ K (nJ16_init (n + 1))) (k : gx_C (gc_O θ) (nJ15_init n) (.ref a0 :: []) σ (gc_Pv (fun σ1 => gc_is σ1 a0 13 ∧ ∀ σ6, σ6 = gc_sI σ1 1300 a0 x1 → P σ6))) : gc_G θ K (nJ16_init (n + 1)) (gc_Pv P) 0 [(0, va_rf (some a0)), (1, .int x1)] [] σ bc bs := by
  refine gx_aload_nq (r := some a0) h 0 rfl dJ16_init_0 ?_
  refine gcc_J16_202 (r := some a0)  h rfl ⟨Nat.le_refl _, Nat.le_refl _⟩ rfl (Nat.le_of_ble_eq_true rfl) dJ16_init_1 (gx_C.mono k ?_)
  rintro _ σ1 ⟨rfl, k⟩
  refine ⟨rfl, ?_⟩
  refine gx_aload_nq (r := some a0) h 0 rfl dJ16_init_4 ?_
  refine gx_iload_n h 1 rfl dJ16_init_5 ?_
  refine gcp_J16_205 (v := x1) h rfl rfl rfl k.1 dJ16_init_6 ?_
  generalize hz : gc_sI σ1 1300 a0 x1 = σ6
  replace k := k.2 σ6 hz.symm
  exact gx_vret h rfl dJ16_init_9 (⟨rfl, k⟩)
/-! J15.init -/
theorem ec_J15_init {θ : gc_T} {P : gc_S → Prop} {σ : gc_S} {n : Nat} {a0 : Nat} (body : ∀ K, gc_K θ K (nJ15_init (n + 1)) → gc_G θ K (nJ15_init (n + 1)) (gc_Pv P) 0 [(0, va_rf (some a0))] [] σ 0 0) : gx_C (gc_O θ) (nJ15_init (n + 1)) [.ref a0] σ (gc_Pv P) :=
  gx_C.intro (gc_z_warm θ) rfl (Nat.le_of_ble_eq_true rfl) body
theorem bc_J15_init_0 {θ : gc_T} {K : gx_K} {P : gc_S → Prop} {σ : gc_S} {a0 n bc bs : Nat} (h : gc_K θ K (nJ15_init (n + 1))) (k : P σ) : gc_G θ K (nJ15_init (n + 1)) (gc_Pv P) 0 [(0, va_rf (some a0))] [] σ bc bs := by
  refine gx_aload_nq (r := some a0) h 0 rfl dJ15_init_0 ?_
  refine gcc_J15_1 (n := n) (r := some a0) h rfl ⟨Nat.le_refl _, Nat.le_refl _⟩ rfl (Nat.le_of_ble_eq_true rfl) dJ15_init_1 ?_
  exact gx_vret h rfl dJ15_init_4 (⟨rfl, k⟩)
