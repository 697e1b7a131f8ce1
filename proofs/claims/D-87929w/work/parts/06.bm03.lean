set_option maxRecDepth 100000
/-! like -/
theorem em_like {θ : gm_T} {P : Int32 → gm_X → Prop} {X : gm_X}  (body : ∀ K, gm_K θ K mX7_like → gm_G θ K mX7_like (gm_Pi P) 0 [(0, .ref (gm_am θ))] [] X) : gx_C (gm_O θ) mX7_like [.ref (gm_am θ)] X (gm_Pi P) :=
  gx_C.intro (gm_z θ) (by decide) (Nat.le_of_ble_eq_true rfl) body
theorem bm_like_0 {θ : gm_T} {K : gx_K} {P : Int32 → gm_X → Prop} {X : gm_X} (h : gm_K θ K mX7_like) (k : ((0 ≤ (X.1 22) → ¬ (X.1 22) = 0 ∧ P ((200 * (X.1 20)) / (X.1 22)) X) ∧ (¬ 0 ≤ (X.1 22) → gx_C (gm_O θ) mX7_found0 [.ref (gm_am θ), .int (-6)] X (gm_Pi (fun r10 X10 => P r10 X10))))) : gm_G θ K mX7_like (gm_Pi P) 0 [(0, .ref (gm_am θ))] [] X := by
  refine gx_aload_n h 0 rfl dX7_like_0 ?_
  refine gm_get22 h rfl dX7_like_1 ?_
  refine gx_if_ge (tgt := 16) h (by decide) dX7_like_4 (fun c => ?_) (fun c => ?_)
  · replace k := k.1 c
    refine gx_sipush (v := 200) h dX7_like_16 (by decide) ?_
    refine gx_aload_n h 0 rfl dX7_like_19 ?_
    refine gm_get20 h rfl dX7_like_20 ?_
    refine gx_imul h dX7_like_23 ?_
    refine gx_aload_n h 0 rfl dX7_like_24 ?_
    refine gm_get22 h rfl dX7_like_25 ?_
    refine gx_idiv h k.1 dX7_like_28 ?_
    replace k := k.2
    exact gx_iret h rfl dX7_like_29 ⟨_, rfl, k⟩
  · replace k := k.2 c
    refine gx_aload_n h 0 rfl dX7_like_7 ?_
    refine gx_bipush (v := (-6)) h dX7_like_8 (by decide) ?_
    refine gm_c_found0 h rfl ⟨Nat.le_of_ble_eq_true rfl, Nat.le_of_ble_eq_true rfl⟩ (Nat.le_of_ble_eq_true rfl) dX7_like_10 (gx_C.mono k ?_)
    rintro _ X10 ⟨r10, rfl, k⟩
    refine ⟨r10, rfl, ?_⟩
    refine gx_goto (tgt := 29) h (by decide) dX7_like_13 ?_
    exact gx_iret h rfl dX7_like_29 ⟨_, rfl, k⟩
/-! same -/
theorem em_same {θ : gm_T} {P : Int32 → gm_X → Prop} {X : gm_X} {x1 : Int32} {x2 : Int32} (body : ∀ K, gm_K θ K mX7_same → gm_G θ K mX7_same (gm_Pi P) 0 [(0, .ref (gm_am θ)), (1, .int x1), (2, .int x2)] [] X) : gx_C (gm_O θ) mX7_same [.ref (gm_am θ), .int x1, .int x2] X (gm_Pi P) :=
  gx_C.intro (gm_z θ) (by decide) (Nat.le_of_ble_eq_true rfl) body
theorem bm_same_0 {θ : gm_T} {K : gx_K} {P : Int32 → gm_X → Prop} {X : gm_X} {x1 x2 : Int32} (h : gm_K θ K mX7_same) (k : gx_C (gm_O θ) mX7_lacks [.ref (gm_am θ), .int x1] X (gm_Pi (fun r2 X2 => ((0 ≤ r2 → gx_C (gm_O θ) mX7_lacks [.ref (gm_am θ), .int x2] X2 (gm_Pi (fun r18 X18 => ((0 ≤ r18 → gx_C (gm_O θ) mX7_sort [.ref (gm_am θ), .int x1, .int x2] X18 (gm_Pv (fun X35 => vp_in 0 60 ∧ vp_in 30 60 ∧ (((X35.2 28 (0 : Int32).toNatClampNeg) = (X35.2 28 (30 : Int32).toNatClampNeg) → P 1 X35) ∧ (¬ (X35.2 28 (0 : Int32).toNatClampNeg) = (X35.2 28 (30 : Int32).toNatClampNeg) → P 0 X35))))) ∧ (¬ 0 ≤ r18 → gx_C (gm_O θ) mX7_found0 [.ref (gm_am θ), .int r18] X18 (gm_Pi (fun r28 X28 => P r28 X28))))))) ∧ (¬ 0 ≤ r2 → gx_C (gm_O θ) mX7_found0 [.ref (gm_am θ), .int r2] X2 (gm_Pi (fun r12 X12 => P r12 X12))))))) : gm_G θ K mX7_same (gm_Pi P) 0 [(0, .ref (gm_am θ)), (1, .int x1), (2, .int x2)] [] X := by
  refine gx_aload_n h 0 rfl dX7_same_0 ?_
  refine gx_iload_n h 1 rfl dX7_same_1 ?_
  refine gm_c_lacks h rfl ⟨Nat.le_of_ble_eq_true rfl, Nat.le_of_ble_eq_true rfl⟩ (Nat.le_of_ble_eq_true rfl) dX7_same_2 (gx_C.mono k ?_)
  rintro _ X2 ⟨r2, rfl, k⟩
  refine ⟨r2, rfl, ?_⟩
  refine gx_istore_n (L' := [(3, .int r2), (0, .ref (gm_am θ)), (1, .int x1), (2, .int x2)]) h (by decide) rfl dX7_same_5 ?_
  refine gx_iload_n h 0 rfl dX7_same_6 ?_
  refine gx_if_ge (tgt := 16) h (by decide) dX7_same_7 (fun c => ?_) (fun c => ?_)
  · replace k := k.1 c
    refine gx_aload_n h 1 rfl dX7_same_16 ?_
    refine gx_iload_n h 3 rfl dX7_same_17 ?_
    refine gm_c_lacks h rfl ⟨Nat.le_of_ble_eq_true rfl, Nat.le_of_ble_eq_true rfl⟩ (Nat.le_of_ble_eq_true rfl) dX7_same_18 (gx_C.mono k ?_)
    rintro _ X18 ⟨r18, rfl, k⟩
    refine ⟨r18, rfl, ?_⟩
    refine gx_istore_n (L' := [(3, .int r18), (0, .ref (gm_am θ)), (1, .int x1), (2, .int x2)]) h (by decide) rfl dX7_same_21 ?_
    refine gx_iload_n h 0 rfl dX7_same_22 ?_
    refine gx_if_ge (tgt := 32) h (by decide) dX7_same_23 (fun c => ?_) (fun c => ?_)
    · replace k := k.1 c
      refine gx_aload_n h 1 rfl dX7_same_32 ?_
      refine gx_iload_n h 2 rfl dX7_same_33 ?_
      refine gx_iload_n h 3 rfl dX7_same_34 ?_
      refine gm_c_sort h rfl ⟨Nat.le_of_ble_eq_true rfl, Nat.le_of_ble_eq_true rfl⟩ (Nat.le_of_ble_eq_true rfl) dX7_same_35 (gx_C.mono k ?_)
      rintro _ X35 ⟨rfl, k⟩
      refine ⟨rfl, ?_⟩
      refine gx_aload_n h 1 rfl dX7_same_38 ?_
      refine gm_get28 h rfl dX7_same_39 ?_
      refine gx_iconst (v := 0) h dX7_same_42 (by decide) ?_
      refine gm_ld28 h k.1 dX7_same_43 ?_
      replace k := k.2
      refine gx_aload_n h 1 rfl dX7_same_44 ?_
      refine gm_get28 h rfl dX7_same_45 ?_
      refine gx_bipush (v := 30) h dX7_same_48 (by decide) ?_
      refine gm_ld28 h k.1 dX7_same_50 ?_
      replace k := k.2
      refine gx_icmp_ne (tgt := 58) h (by decide) dX7_same_51 (fun c => ?_) (fun c => ?_)
      · replace k := k.2 c
        refine gx_iconst (v := 0) h dX7_same_58 (by decide) ?_
        exact gx_iret h rfl dX7_same_59 ⟨_, rfl, k⟩
      · replace k := k.1 c
        refine gx_iconst (v := 1) h dX7_same_54 (by decide) ?_
        refine gx_goto (tgt := 59) h (by decide) dX7_same_55 ?_
        exact gx_iret h rfl dX7_same_59 ⟨_, rfl, k⟩
    · replace k := k.2 c
      refine gx_aload_n h 1 rfl dX7_same_26 ?_
      refine gx_iload_n h 0 rfl dX7_same_27 ?_
      refine gm_c_found0 h rfl ⟨Nat.le_of_ble_eq_true rfl, Nat.le_of_ble_eq_true rfl⟩ (Nat.le_of_ble_eq_true rfl) dX7_same_28 (gx_C.mono k ?_)
      rintro _ X28 ⟨r28, rfl, k⟩
      refine ⟨r28, rfl, ?_⟩
      exact gx_iret h rfl dX7_same_31 ⟨_, rfl, k⟩
  · replace k := k.2 c
    refine gx_aload_n h 1 rfl dX7_same_10 ?_
    refine gx_iload_n h 0 rfl dX7_same_11 ?_
    refine gm_c_found0 h rfl ⟨Nat.le_of_ble_eq_true rfl, Nat.le_of_ble_eq_true rfl⟩ (Nat.le_of_ble_eq_true rfl) dX7_same_12 (gx_C.mono k ?_)
    rintro _ X12 ⟨r12, rfl, k⟩
    refine ⟨r12, rfl, ?_⟩
    exact gx_iret h rfl dX7_same_15 ⟨_, rfl, k⟩
/-! sort -/
theorem em_sort {θ : gm_T} {P : gm_X → Prop} {X : gm_X} {x1 : Int32} {x2 : Int32} (body : ∀ K, gm_K θ K mX7_sort → gm_G θ K mX7_sort (gm_Pv P) 0 [(0, .ref (gm_am θ)), (1, .int x1), (2, .int x2)] [] X) : gx_C (gm_O θ) mX7_sort [.ref (gm_am θ), .int x1, .int x2] X (gm_Pv P) :=
  gx_C.intro (gm_z θ) (by decide) (Nat.le_of_ble_eq_true rfl) body
theorem bm_sort_0 {θ : gm_T} {K : gx_K} {P : gm_X → Prop} {X : gm_X} {x1 x2 : Int32} (h : gm_K θ K mX7_sort) (k : vp_in x1 11 ∧ ∀ x3_8 : Int32, x3_8 = (X.2 1 x1.toNatClampNeg) - 1 → gm_G θ K mX7_sort (gm_Pv P) 9 [(0, .ref (gm_am θ)), (1, .int x1), (2, .int x2), (3, .int x3_8)] [] X) : gm_G θ K mX7_sort (gm_Pv P) 0 [(0, .ref (gm_am θ)), (1, .int x1), (2, .int x2)] [] X := by
  refine gx_aload_n h 0 rfl dX7_sort_0 ?_
  refine gm_get1 h rfl dX7_sort_1 ?_
  refine gx_iload_n h 1 rfl dX7_sort_4 ?_
  refine gm_ld1 h k.1 dX7_sort_5 ?_
  replace k := k.2
  refine gx_iconst (v := 1) h dX7_sort_6 (by decide) ?_
  refine gx_isub h dX7_sort_7 ?_
  generalize hz : (X.2 1 x1.toNatClampNeg) - 1 = x3_8
  replace k := k x3_8 hz.symm
  refine gx_istore_n (L' := [(3, .int x3_8), (0, .ref (gm_am θ)), (1, .int x1), (2, .int x2)]) h (by decide) rfl dX7_sort_8 ?_
  exact gx_sub [1, 2, 3, 0] rfl k
theorem bm_sort_9 {θ : gm_T} {K : gx_K} {P : gm_X → Prop} {X : gm_X} {x1 x2 x3 : Int32} (h : gm_K θ K mX7_sort) (k : ((x3 < 0 → vp_in x2 11 ∧ ∀ x3_83 : Int32, x3_83 = (X.2 1 x2.toNatClampNeg) - 1 → gm_G θ K mX7_sort (gm_Pv P) 84 [(0, .ref (gm_am θ)), (1, .int x1), (2, .int x2), (3, .int x3_83)] [] X) ∧ (¬ x3 < 0 → vp_in x3 60 ∧ ∀ X19, X19 = gm_pA X 28 x3.toNatClampNeg x3 → vp_in x1 11 ∧ ∀ x4_28 : Int32, x4_28 = (X19.2 1 x1.toNatClampNeg) - 1 → gm_G θ K mX7_sort (gm_Pv P) 30 [(0, .ref (gm_am θ)), (1, .int x1), (2, .int x2), (3, .int x3), (4, .int x4_28)] [] X19))) : gm_G θ K mX7_sort (gm_Pv P) 9 [(0, .ref (gm_am θ)), (1, .int x1), (2, .int x2), (3, .int x3)] [] X := by
  refine gx_iload_n h 3 rfl dX7_sort_9 ?_
  refine gx_if_lt (tgt := 75) h (by decide) dX7_sort_10 (fun c => ?_) (fun c => ?_)
  · replace k := k.1 c
    refine gx_aload_n h 0 rfl dX7_sort_75 ?_
    refine gm_get1 h rfl dX7_sort_76 ?_
    refine gx_iload_n h 2 rfl dX7_sort_79 ?_
    refine gm_ld1 h k.1 dX7_sort_80 ?_
    replace k := k.2
    refine gx_iconst (v := 1) h dX7_sort_81 (by decide) ?_
    refine gx_isub h dX7_sort_82 ?_
    generalize hz : (X.2 1 x2.toNatClampNeg) - 1 = x3_83
    replace k := k x3_83 hz.symm
    refine gx_istore_n (L' := [(3, .int x3_83), (0, .ref (gm_am θ)), (1, .int x1), (2, .int x2)]) h (by decide) rfl dX7_sort_83 ?_
    exact gx_sub [1, 2, 3, 0] rfl k
  · replace k := k.2 c
    refine gx_aload_n h 0 rfl dX7_sort_13 ?_
    refine gm_get28 h rfl dX7_sort_14 ?_
    refine gx_iload_n h 3 rfl dX7_sort_17 ?_
    refine gx_iload_n h 3 rfl dX7_sort_18 ?_
    refine gm_st28 h k.1 dX7_sort_19 ?_
    generalize hz : gm_pA X 28 x3.toNatClampNeg x3 = X19
    replace k := k.2 X19 hz.symm
    refine gx_aload_n h 0 rfl dX7_sort_20 ?_
    refine gm_get1 h rfl dX7_sort_21 ?_
    refine gx_iload_n h 1 rfl dX7_sort_24 ?_
    refine gm_ld1 h k.1 dX7_sort_25 ?_
    replace k := k.2
    refine gx_iconst (v := 1) h dX7_sort_26 (by decide) ?_
    refine gx_isub h dX7_sort_27 ?_
    generalize hz : (X19.2 1 x1.toNatClampNeg) - 1 = x4_28
    replace k := k x4_28 hz.symm
    refine gx_istore (L' := [(4, .int x4_28), (0, .ref (gm_am θ)), (1, .int x1), (2, .int x2), (3, .int x3)]) h (by decide) rfl dX7_sort_28 ?_
    exact gx_sub [1, 2, 3, 4, 0] rfl k
theorem bm_sort_30 {θ : gm_T} {K : gx_K} {P : gm_X → Prop} {X : gm_X} {x1 x2 x3 x4 : Int32} (h : gm_K θ K mX7_sort) (k : ((x4 ≤ x3 → gm_G θ K mX7_sort (gm_Pv P) 9 [(0, .ref (gm_am θ)), (1, .int x1), (2, .int x2), (3, .int (x3 + (-1)))] [] X) ∧ (¬ x4 ≤ x3 → gx_C (gm_O θ) mX7_areSame [.ref (gm_am θ), .int x1, .int x3, .int 0, .int x1, .int x4, .int 0] X (gm_Pi (fun r44 X44 => ((r44 = 0 → gm_G θ K mX7_sort (gm_Pv P) 63 [(0, .ref (gm_am θ)), (1, .int x1), (2, .int x2), (3, .int x3), (4, .int x4)] [] X44) ∧ (¬ r44 = 0 → vp_in x4 60 ∧ vp_in x3 60 ∧ ∀ X62, X62 = gm_pA X44 28 x3.toNatClampNeg (X44.2 28 x4.toNatClampNeg) → gm_G θ K mX7_sort (gm_Pv P) 63 [(0, .ref (gm_am θ)), (1, .int x1), (2, .int x2), (3, .int x3), (4, .int x4)] [] X62))))))) : gm_G θ K mX7_sort (gm_Pv P) 30 [(0, .ref (gm_am θ)), (1, .int x1), (2, .int x2), (3, .int x3), (4, .int x4)] [] X := by
  refine gx_iload h 4 rfl dX7_sort_30 ?_
  refine gx_iload_n h 3 rfl dX7_sort_32 ?_
  refine gx_icmp_le (tgt := 69) h (by decide) dX7_sort_33 (fun c => ?_) (fun c => ?_)
  · replace k := k.1 c
    refine gx_iinc (v := x3 + (-1)) (L' := [(3, .int (x3 + (-1))), (0, .ref (gm_am θ)), (1, .int x1), (2, .int x2), (4, .int x4)]) h 3 rfl (congrArg (fun q => x3 + q) (by decide)) (by decide) rfl dX7_sort_69 ?_
    refine gx_goto (tgt := 9) h (by decide) dX7_sort_72 ?_
    exact gx_sub [1, 2, 3, 0] rfl k
  · replace k := k.2 c
    refine gx_aload_n h 0 rfl dX7_sort_36 ?_
    refine gx_iload_n h 1 rfl dX7_sort_37 ?_
    refine gx_iload_n h 3 rfl dX7_sort_38 ?_
    refine gx_iconst (v := 0) h dX7_sort_39 (by decide) ?_
    refine gx_iload_n h 1 rfl dX7_sort_40 ?_
    refine gx_iload h 4 rfl dX7_sort_41 ?_
    refine gx_iconst (v := 0) h dX7_sort_43 (by decide) ?_
    refine gm_c_areSame h rfl ⟨Nat.le_of_ble_eq_true rfl, Nat.le_of_ble_eq_true rfl⟩ (Nat.le_of_ble_eq_true rfl) dX7_sort_44 (gx_C.mono k ?_)
    rintro _ X44 ⟨r44, rfl, k⟩
    refine ⟨r44, rfl, ?_⟩
    refine gx_if_eq (tgt := 63) h (by decide) dX7_sort_47 (fun c => ?_) (fun c => ?_)
    · replace k := k.1 c
      exact k
    · replace k := k.2 c
      refine gx_aload_n h 0 rfl dX7_sort_50 ?_
      refine gm_get28 h rfl dX7_sort_51 ?_
      refine gx_iload_n h 3 rfl dX7_sort_54 ?_
      refine gx_aload_n h 0 rfl dX7_sort_55 ?_
      refine gm_get28 h rfl dX7_sort_56 ?_
      refine gx_iload h 4 rfl dX7_sort_59 ?_
      refine gm_ld28 h k.1 dX7_sort_61 ?_
      replace k := k.2
      refine gm_st28 h k.1 dX7_sort_62 ?_
      generalize hz : gm_pA X44 28 x3.toNatClampNeg (X44.2 28 x4.toNatClampNeg) = X62
      replace k := k.2 X62 hz.symm
      exact k
theorem bm_sort_63 {θ : gm_T} {K : gx_K} {P : gm_X → Prop} {X : gm_X} {x1 x2 x3 x4 : Int32} (h : gm_K θ K mX7_sort) (k : gm_G θ K mX7_sort (gm_Pv P) 30 [(0, .ref (gm_am θ)), (1, .int x1), (2, .int x2), (3, .int x3), (4, .int (x4 + (-1)))] [] X) : gm_G θ K mX7_sort (gm_Pv P) 63 [(0, .ref (gm_am θ)), (1, .int x1), (2, .int x2), (3, .int x3), (4, .int x4)] [] X := by
  refine gx_iinc (v := x4 + (-1)) (L' := [(4, .int (x4 + (-1))), (0, .ref (gm_am θ)), (1, .int x1), (2, .int x2), (3, .int x3)]) h 4 rfl (congrArg (fun q => x4 + q) (by decide)) (by decide) rfl dX7_sort_63 ?_
  refine gx_goto (tgt := 30) h (by decide) dX7_sort_66 ?_
  exact gx_sub [1, 2, 3, 4, 0] rfl k
theorem bm_sort_84 {θ : gm_T} {K : gx_K} {P : gm_X → Prop} {X : gm_X} {x1 x2 x3 : Int32} (h : gm_K θ K mX7_sort) (k : ((x3 < 0 → P X) ∧ (¬ x3 < 0 → vp_in (30 + x3) 60 ∧ ∀ X100, X100 = gm_pA X 28 (30 + x3).toNatClampNeg (30 + x3) → vp_in x2 11 ∧ ∀ x4_109 : Int32, x4_109 = (X100.2 1 x2.toNatClampNeg) - 1 → gm_G θ K mX7_sort (gm_Pv P) 111 [(0, .ref (gm_am θ)), (1, .int x1), (2, .int x2), (3, .int x3), (4, .int x4_109)] [] X100))) : gm_G θ K mX7_sort (gm_Pv P) 84 [(0, .ref (gm_am θ)), (1, .int x1), (2, .int x2), (3, .int x3)] [] X := by
  refine gx_iload_n h 3 rfl dX7_sort_84 ?_
  refine gx_if_lt (tgt := 216) h (by decide) dX7_sort_85 (fun c => ?_) (fun c => ?_)
  · replace k := k.1 c
    exact gx_vret h rfl dX7_sort_216 ⟨rfl, k⟩
  · replace k := k.2 c
    refine gx_aload_n h 0 rfl dX7_sort_88 ?_
    refine gm_get28 h rfl dX7_sort_89 ?_
    refine gx_bipush (v := 30) h dX7_sort_92 (by decide) ?_
    refine gx_iload_n h 3 rfl dX7_sort_94 ?_
    refine gx_iadd h dX7_sort_95 ?_
    refine gx_bipush (v := 30) h dX7_sort_96 (by decide) ?_
    refine gx_iload_n h 3 rfl dX7_sort_98 ?_
    refine gx_iadd h dX7_sort_99 ?_
    refine gm_st28 h k.1 dX7_sort_100 ?_
    generalize hz : gm_pA X 28 (30 + x3).toNatClampNeg (30 + x3) = X100
    replace k := k.2 X100 hz.symm
    refine gx_aload_n h 0 rfl dX7_sort_101 ?_
    refine gm_get1 h rfl dX7_sort_102 ?_
    refine gx_iload_n h 2 rfl dX7_sort_105 ?_
    refine gm_ld1 h k.1 dX7_sort_106 ?_
    replace k := k.2
    refine gx_iconst (v := 1) h dX7_sort_107 (by decide) ?_
    refine gx_isub h dX7_sort_108 ?_
    generalize hz : (X100.2 1 x2.toNatClampNeg) - 1 = x4_109
    replace k := k x4_109 hz.symm
    refine gx_istore (L' := [(4, .int x4_109), (0, .ref (gm_am θ)), (1, .int x1), (2, .int x2), (3, .int x3)]) h (by decide) rfl dX7_sort_109 ?_
    exact gx_sub [1, 2, 3, 4, 0] rfl k
theorem bm_sort_111 {θ : gm_T} {K : gx_K} {P : gm_X → Prop} {X : gm_X} {x1 x2 x3 x4 : Int32} (h : gm_K θ K mX7_sort) (k : ((x4 ≤ x3 → vp_in x1 11 ∧ ∀ x4_166 : Int32, x4_166 = (X.2 1 x1.toNatClampNeg) - 1 → gm_G θ K mX7_sort (gm_Pv P) 168 [(0, .ref (gm_am θ)), (1, .int x1), (2, .int x2), (3, .int x3), (4, .int x4_166)] [] X) ∧ (¬ x4 ≤ x3 → gx_C (gm_O θ) mX7_areSame [.ref (gm_am θ), .int x2, .int x3, .int 30, .int x2, .int x4, .int 30] X (gm_Pi (fun r127 X127 => ((r127 = 0 → gm_G θ K mX7_sort (gm_Pv P) 152 [(0, .ref (gm_am θ)), (1, .int x1), (2, .int x2), (3, .int x3), (4, .int x4)] [] X127) ∧ (¬ r127 = 0 → vp_in (30 + x4) 60 ∧ vp_in (30 + x3) 60 ∧ ∀ X151, X151 = gm_pA X127 28 (30 + x3).toNatClampNeg (X127.2 28 (30 + x4).toNatClampNeg) → gm_G θ K mX7_sort (gm_Pv P) 152 [(0, .ref (gm_am θ)), (1, .int x1), (2, .int x2), (3, .int x3), (4, .int x4)] [] X151))))))) : gm_G θ K mX7_sort (gm_Pv P) 111 [(0, .ref (gm_am θ)), (1, .int x1), (2, .int x2), (3, .int x3), (4, .int x4)] [] X := by
  refine gx_iload h 4 rfl dX7_sort_111 ?_
  refine gx_iload_n h 3 rfl dX7_sort_113 ?_
  refine gx_icmp_le (tgt := 158) h (by decide) dX7_sort_114 (fun c => ?_) (fun c => ?_)
  · replace k := k.1 c
    refine gx_aload_n h 0 rfl dX7_sort_158 ?_
    refine gm_get1 h rfl dX7_sort_159 ?_
    refine gx_iload_n h 1 rfl dX7_sort_162 ?_
    refine gm_ld1 h k.1 dX7_sort_163 ?_
    replace k := k.2
    refine gx_iconst (v := 1) h dX7_sort_164 (by decide) ?_
    refine gx_isub h dX7_sort_165 ?_
    generalize hz : (X.2 1 x1.toNatClampNeg) - 1 = x4_166
    replace k := k x4_166 hz.symm
    refine gx_istore (L' := [(4, .int x4_166), (0, .ref (gm_am θ)), (1, .int x1), (2, .int x2), (3, .int x3)]) h (by decide) rfl dX7_sort_166 ?_
    exact gx_sub [1, 2, 3, 4, 0] rfl k
  · replace k := k.2 c
    refine gx_aload_n h 0 rfl dX7_sort_117 ?_
    refine gx_iload_n h 2 rfl dX7_sort_118 ?_
    refine gx_iload_n h 3 rfl dX7_sort_119 ?_
    refine gx_bipush (v := 30) h dX7_sort_120 (by decide) ?_
    refine gx_iload_n h 2 rfl dX7_sort_122 ?_
    refine gx_iload h 4 rfl dX7_sort_123 ?_
    refine gx_bipush (v := 30) h dX7_sort_125 (by decide) ?_
    refine gm_c_areSame h rfl ⟨Nat.le_of_ble_eq_true rfl, Nat.le_of_ble_eq_true rfl⟩ (Nat.le_of_ble_eq_true rfl) dX7_sort_127 (gx_C.mono k ?_)
    rintro _ X127 ⟨r127, rfl, k⟩
    refine ⟨r127, rfl, ?_⟩
    refine gx_if_eq (tgt := 152) h (by decide) dX7_sort_130 (fun c => ?_) (fun c => ?_)
    · replace k := k.1 c
      exact k
    · replace k := k.2 c
      refine gx_aload_n h 0 rfl dX7_sort_133 ?_
      refine gm_get28 h rfl dX7_sort_134 ?_
      refine gx_bipush (v := 30) h dX7_sort_137 (by decide) ?_
      refine gx_iload_n h 3 rfl dX7_sort_139 ?_
      refine gx_iadd h dX7_sort_140 ?_
      refine gx_aload_n h 0 rfl dX7_sort_141 ?_
      refine gm_get28 h rfl dX7_sort_142 ?_
      refine gx_bipush (v := 30) h dX7_sort_145 (by decide) ?_
      refine gx_iload h 4 rfl dX7_sort_147 ?_
      refine gx_iadd h dX7_sort_149 ?_
      refine gm_ld28 h k.1 dX7_sort_150 ?_
      replace k := k.2
      refine gm_st28 h k.1 dX7_sort_151 ?_
      generalize hz : gm_pA X127 28 (30 + x3).toNatClampNeg (X127.2 28 (30 + x4).toNatClampNeg) = X151
      replace k := k.2 X151 hz.symm
      exact k
theorem bm_sort_152 {θ : gm_T} {K : gx_K} {P : gm_X → Prop} {X : gm_X} {x1 x2 x3 x4 : Int32} (h : gm_K θ K mX7_sort) (k : gm_G θ K mX7_sort (gm_Pv P) 111 [(0, .ref (gm_am θ)), (1, .int x1), (2, .int x2), (3, .int x3), (4, .int (x4 + (-1)))] [] X) : gm_G θ K mX7_sort (gm_Pv P) 152 [(0, .ref (gm_am θ)), (1, .int x1), (2, .int x2), (3, .int x3), (4, .int x4)] [] X := by
  refine gx_iinc (v := x4 + (-1)) (L' := [(4, .int (x4 + (-1))), (0, .ref (gm_am θ)), (1, .int x1), (2, .int x2), (3, .int x3)]) h 4 rfl (congrArg (fun q => x4 + q) (by decide)) (by decide) rfl dX7_sort_152 ?_
  refine gx_goto (tgt := 111) h (by decide) dX7_sort_155 ?_
  exact gx_sub [1, 2, 3, 4, 0] rfl k
theorem bm_sort_168 {θ : gm_T} {K : gx_K} {P : gm_X → Prop} {X : gm_X} {x1 x2 x3 x4 : Int32} (h : gm_K θ K mX7_sort) (k : ((x4 < 0 → gm_G θ K mX7_sort (gm_Pv P) 84 [(0, .ref (gm_am θ)), (1, .int x1), (2, .int x2), (3, .int (x3 + (-1)))] [] X) ∧ (¬ x4 < 0 → gx_C (gm_O θ) mX7_areSame [.ref (gm_am θ), .int x2, .int x3, .int 30, .int x1, .int x4, .int 0] X (gm_Pi (fun r182 X182 => ((r182 = 0 → gm_G θ K mX7_sort (gm_Pv P) 204 [(0, .ref (gm_am θ)), (1, .int x1), (2, .int x2), (3, .int x3), (4, .int x4)] [] X182) ∧ (¬ r182 = 0 → vp_in x4 60 ∧ vp_in (30 + x3) 60 ∧ ∀ X203, X203 = gm_pA X182 28 (30 + x3).toNatClampNeg (X182.2 28 x4.toNatClampNeg) → gm_G θ K mX7_sort (gm_Pv P) 204 [(0, .ref (gm_am θ)), (1, .int x1), (2, .int x2), (3, .int x3), (4, .int x4)] [] X203))))))) : gm_G θ K mX7_sort (gm_Pv P) 168 [(0, .ref (gm_am θ)), (1, .int x1), (2, .int x2), (3, .int x3), (4, .int x4)] [] X := by
  refine gx_iload h 4 rfl dX7_sort_168 ?_
  refine gx_if_lt (tgt := 210) h (by decide) dX7_sort_170 (fun c => ?_) (fun c => ?_)
  · replace k := k.1 c
    refine gx_iinc (v := x3 + (-1)) (L' := [(3, .int (x3 + (-1))), (0, .ref (gm_am θ)), (1, .int x1), (2, .int x2), (4, .int x4)]) h 3 rfl (congrArg (fun q => x3 + q) (by decide)) (by decide) rfl dX7_sort_210 ?_
    refine gx_goto (tgt := 84) h (by decide) dX7_sort_213 ?_
    exact gx_sub [1, 2, 3, 0] rfl k
  · replace k := k.2 c
    refine gx_aload_n h 0 rfl dX7_sort_173 ?_
    refine gx_iload_n h 2 rfl dX7_sort_174 ?_
    refine gx_iload_n h 3 rfl dX7_sort_175 ?_
    refine gx_bipush (v := 30) h dX7_sort_176 (by decide) ?_
    refine gx_iload_n h 1 rfl dX7_sort_178 ?_
    refine gx_iload h 4 rfl dX7_sort_179 ?_
    refine gx_iconst (v := 0) h dX7_sort_181 (by decide) ?_
    refine gm_c_areSame h rfl ⟨Nat.le_of_ble_eq_true rfl, Nat.le_of_ble_eq_true rfl⟩ (Nat.le_of_ble_eq_true rfl) dX7_sort_182 (gx_C.mono k ?_)
    rintro _ X182 ⟨r182, rfl, k⟩
    refine ⟨r182, rfl, ?_⟩
    refine gx_if_eq (tgt := 204) h (by decide) dX7_sort_185 (fun c => ?_) (fun c => ?_)
    · replace k := k.1 c
      exact k
    · replace k := k.2 c
      refine gx_aload_n h 0 rfl dX7_sort_188 ?_
      refine gm_get28 h rfl dX7_sort_189 ?_
      refine gx_bipush (v := 30) h dX7_sort_192 (by decide) ?_
      refine gx_iload_n h 3 rfl dX7_sort_194 ?_
      refine gx_iadd h dX7_sort_195 ?_
      refine gx_aload_n h 0 rfl dX7_sort_196 ?_
      refine gm_get28 h rfl dX7_sort_197 ?_
      refine gx_iload h 4 rfl dX7_sort_200 ?_
      refine gm_ld28 h k.1 dX7_sort_202 ?_
      replace k := k.2
      refine gm_st28 h k.1 dX7_sort_203 ?_
      generalize hz : gm_pA X182 28 (30 + x3).toNatClampNeg (X182.2 28 x4.toNatClampNeg) = X203
      replace k := k.2 X203 hz.symm
      exact k
theorem bm_sort_204 {θ : gm_T} {K : gx_K} {P : gm_X → Prop} {X : gm_X} {x1 x2 x3 x4 : Int32} (h : gm_K θ K mX7_sort) (k : gm_G θ K mX7_sort (gm_Pv P) 168 [(0, .ref (gm_am θ)), (1, .int x1), (2, .int x2), (3, .int x3), (4, .int (x4 + (-1)))] [] X) : gm_G θ K mX7_sort (gm_Pv P) 204 [(0, .ref (gm_am θ)), (1, .int x1), (2, .int x2), (3, .int x3), (4, .int x4)] [] X := by
  refine gx_iinc (v := x4 + (-1)) (L' := [(4, .int (x4 + (-1))), (0, .ref (gm_am θ)), (1, .int x1), (2, .int x2), (3, .int x3)]) h 4 rfl (congrArg (fun q => x4 + q) (by decide)) (by decide) rfl dX7_sort_204 ?_
  refine gx_goto (tgt := 168) h (by decide) dX7_sort_207 ?_
  exact gx_sub [1, 2, 3, 4, 0] rfl k
/-! areSame -/
theorem em_areSame {θ : gm_T} {P : Int32 → gm_X → Prop} {X : gm_X} {x1 : Int32} {x2 : Int32} {x3 : Int32} {x4 : Int32} {x5 : Int32} {x6 : Int32} (body : ∀ K, gm_K θ K mX7_areSame → gm_G θ K mX7_areSame (gm_Pi P) 0 [(0, .ref (gm_am θ)), (1, .int x1), (2, .int x2), (3, .int x3), (4, .int x4), (5, .int x5), (6, .int x6)] [] X) : gx_C (gm_O θ) mX7_areSame [.ref (gm_am θ), .int x1, .int x2, .int x3, .int x4, .int x5, .int x6] X (gm_Pi P) :=
  gx_C.intro (gm_z θ) (by decide) (Nat.le_of_ble_eq_true rfl) body
theorem bm_areSame_0 {θ : gm_T} {K : gx_K} {P : Int32 → gm_X → Prop} {X : gm_X} {x1 x2 x3 x4 x5 x6 : Int32} (h : gm_K θ K mX7_areSame) (k : gx_C (gm_O θ) mX7_of [.ref (gm_am θ), .int x1, .int x2, .int 1] X (gm_Pi (fun r4 X4 => gx_C (gm_O θ) mX7_of [.ref (gm_am θ), .int x4, .int x5, .int 1] X4 (gm_Pi (fun r13 X13 => ((r4 = r13 → gx_C (gm_O θ) mX7_isLike [.ref (gm_am θ), .int x1, .int x2, .int x4, .int x5, .int 3] X13 (gm_Pi (fun r27 X27 => ((r27 = 0 → gm_G θ K mX7_areSame (gm_Pi P) 65 [] [] X27) ∧ (¬ r27 = 0 → gx_C (gm_O θ) mX7_isLike [.ref (gm_am θ), .int x1, .int x2, .int x4, .int x5, .int 10] X27 (gm_Pi (fun r42 X42 => ((r42 = 0 → gm_G θ K mX7_areSame (gm_Pi P) 65 [] [] X42) ∧ (¬ r42 = 0 → gx_C (gm_O θ) mX7_children [.ref (gm_am θ), .int x1, .int x2] X42 (gm_Pi (fun r51 X51 => gx_C (gm_O θ) mX7_children [.ref (gm_am θ), .int x4, .int x5] X51 (gm_Pi (fun r59 X59 => ((r51 = r59 → gx_C (gm_O θ) mX7_of [.ref (gm_am θ), .int x1, .int x2, .int 1] X59 (gm_Pi (fun r71 X71 => ((r71 = 1 → gm_G θ K mX7_areSame (gm_Pi P) 89 [(0, .ref (gm_am θ)), (1, .int x1), (2, .int x2), (3, .int x3), (4, .int x4), (5, .int x5), (6, .int x6)] [] X71) ∧ (¬ r71 = 1 → gx_C (gm_O θ) mX7_of [.ref (gm_am θ), .int x1, .int x2, .int 1] X71 (gm_Pi (fun r82 X82 => ((r82 = 2 → gm_G θ K mX7_areSame (gm_Pi P) 89 [(0, .ref (gm_am θ)), (1, .int x1), (2, .int x2), (3, .int x3), (4, .int x4), (5, .int x5), (6, .int x6)] [] X82) ∧ (¬ r82 = 2 → gm_G θ K mX7_areSame (gm_Pi P) 107 [(0, .ref (gm_am θ)), (1, .int x1), (2, .int x2), (3, .int x3), (4, .int x4), (5, .int x5), (6, .int x6), (7, .int 0), (8, .int (x5 + 1)), (9, .int (x2 + 1))] [] X82))))))))) ∧ (¬ r51 = r59 → gm_G θ K mX7_areSame (gm_Pi P) 65 [] [] X59))))))))))))))) ∧ (¬ r4 = r13 → gm_G θ K mX7_areSame (gm_Pi P) 65 [] [] X13))))))) : gm_G θ K mX7_areSame (gm_Pi P) 0 [(0, .ref (gm_am θ)), (1, .int x1), (2, .int x2), (3, .int x3), (4, .int x4), (5, .int x5), (6, .int x6)] [] X := by
  refine gx_aload_n h 0 rfl dX7_areSame_0 ?_
  refine gx_iload_n h 1 rfl dX7_areSame_1 ?_
  refine gx_iload_n h 2 rfl dX7_areSame_2 ?_
  refine gx_iconst (v := 1) h dX7_areSame_3 (by decide) ?_
  refine gm_c_of h rfl ⟨Nat.le_of_ble_eq_true rfl, Nat.le_of_ble_eq_true rfl⟩ (Nat.le_of_ble_eq_true rfl) dX7_areSame_4 (gx_C.mono k ?_)
  rintro _ X4 ⟨r4, rfl, k⟩
  refine ⟨r4, rfl, ?_⟩
  refine gx_aload_n h 0 rfl dX7_areSame_7 ?_
  refine gx_iload h 4 rfl dX7_areSame_8 ?_
  refine gx_iload h 5 rfl dX7_areSame_10 ?_
  refine gx_iconst (v := 1) h dX7_areSame_12 (by decide) ?_
  refine gm_c_of h rfl ⟨Nat.le_of_ble_eq_true rfl, Nat.le_of_ble_eq_true rfl⟩ (Nat.le_of_ble_eq_true rfl) dX7_areSame_13 (gx_C.mono k ?_)
  rintro _ X13 ⟨r13, rfl, k⟩
  refine ⟨r13, rfl, ?_⟩
  refine gx_icmp_ne (tgt := 65) h (by decide) dX7_areSame_16 (fun c => ?_) (fun c => ?_)
  · replace k := k.2 c
    exact gx_sub [] rfl k
  · replace k := k.1 c
    refine gx_aload_n h 0 rfl dX7_areSame_19 ?_
    refine gx_iload_n h 1 rfl dX7_areSame_20 ?_
    refine gx_iload_n h 2 rfl dX7_areSame_21 ?_
    refine gx_iload h 4 rfl dX7_areSame_22 ?_
    refine gx_iload h 5 rfl dX7_areSame_24 ?_
    refine gx_iconst (v := 3) h dX7_areSame_26 (by decide) ?_
    refine gm_c_isLike h rfl ⟨Nat.le_of_ble_eq_true rfl, Nat.le_of_ble_eq_true rfl⟩ (Nat.le_of_ble_eq_true rfl) dX7_areSame_27 (gx_C.mono k ?_)
    rintro _ X27 ⟨r27, rfl, k⟩
    refine ⟨r27, rfl, ?_⟩
    refine gx_if_eq (tgt := 65) h (by decide) dX7_areSame_30 (fun c => ?_) (fun c => ?_)
    · replace k := k.1 c
      exact gx_sub [] rfl k
    · replace k := k.2 c
      refine gx_aload_n h 0 rfl dX7_areSame_33 ?_
      refine gx_iload_n h 1 rfl dX7_areSame_34 ?_
      refine gx_iload_n h 2 rfl dX7_areSame_35 ?_
      refine gx_iload h 4 rfl dX7_areSame_36 ?_
      refine gx_iload h 5 rfl dX7_areSame_38 ?_
      refine gx_bipush (v := 10) h dX7_areSame_40 (by decide) ?_
      refine gm_c_isLike h rfl ⟨Nat.le_of_ble_eq_true rfl, Nat.le_of_ble_eq_true rfl⟩ (Nat.le_of_ble_eq_true rfl) dX7_areSame_42 (gx_C.mono k ?_)
      rintro _ X42 ⟨r42, rfl, k⟩
      refine ⟨r42, rfl, ?_⟩
      refine gx_if_eq (tgt := 65) h (by decide) dX7_areSame_45 (fun c => ?_) (fun c => ?_)
      · replace k := k.1 c
        exact gx_sub [] rfl k
      · replace k := k.2 c
        refine gx_aload_n h 0 rfl dX7_areSame_48 ?_
        refine gx_iload_n h 1 rfl dX7_areSame_49 ?_
        refine gx_iload_n h 2 rfl dX7_areSame_50 ?_
        refine gm_c_children h rfl ⟨Nat.le_of_ble_eq_true rfl, Nat.le_of_ble_eq_true rfl⟩ (Nat.le_of_ble_eq_true rfl) dX7_areSame_51 (gx_C.mono k ?_)
        rintro _ X51 ⟨r51, rfl, k⟩
        refine ⟨r51, rfl, ?_⟩
        refine gx_aload_n h 0 rfl dX7_areSame_54 ?_
        refine gx_iload h 4 rfl dX7_areSame_55 ?_
        refine gx_iload h 5 rfl dX7_areSame_57 ?_
        refine gm_c_children h rfl ⟨Nat.le_of_ble_eq_true rfl, Nat.le_of_ble_eq_true rfl⟩ (Nat.le_of_ble_eq_true rfl) dX7_areSame_59 (gx_C.mono k ?_)
        rintro _ X59 ⟨r59, rfl, k⟩
        refine ⟨r59, rfl, ?_⟩
        refine gx_icmp_eq (tgt := 67) h (by decide) dX7_areSame_62 (fun c => ?_) (fun c => ?_)
        · replace k := k.1 c
          refine gx_aload_n h 0 rfl dX7_areSame_67 ?_
          refine gx_iload_n h 1 rfl dX7_areSame_68 ?_
          refine gx_iload_n h 2 rfl dX7_areSame_69 ?_
          refine gx_iconst (v := 1) h dX7_areSame_70 (by decide) ?_
          refine gm_c_of h rfl ⟨Nat.le_of_ble_eq_true rfl, Nat.le_of_ble_eq_true rfl⟩ (Nat.le_of_ble_eq_true rfl) dX7_areSame_71 (gx_C.mono k ?_)
          rintro _ X71 ⟨r71, rfl, k⟩
          refine ⟨r71, rfl, ?_⟩
          refine gx_iconst (v := 1) h dX7_areSame_74 (by decide) ?_
          refine gx_icmp_eq (tgt := 89) h (by decide) dX7_areSame_75 (fun c => ?_) (fun c => ?_)
          · replace k := k.1 c
            exact k
          · replace k := k.2 c
            refine gx_aload_n h 0 rfl dX7_areSame_78 ?_
            refine gx_iload_n h 1 rfl dX7_areSame_79 ?_
            refine gx_iload_n h 2 rfl dX7_areSame_80 ?_
            refine gx_iconst (v := 1) h dX7_areSame_81 (by decide) ?_
            refine gm_c_of h rfl ⟨Nat.le_of_ble_eq_true rfl, Nat.le_of_ble_eq_true rfl⟩ (Nat.le_of_ble_eq_true rfl) dX7_areSame_82 (gx_C.mono k ?_)
            rintro _ X82 ⟨r82, rfl, k⟩
            refine ⟨r82, rfl, ?_⟩
            refine gx_iconst (v := 2) h dX7_areSame_85 (by decide) ?_
            refine gx_icmp_ne (tgt := 93) h (by decide) dX7_areSame_86 (fun c => ?_) (fun c => ?_)
            · replace k := k.2 c
              refine gx_iconst (v := 0) h dX7_areSame_93 (by decide) ?_
              refine gx_istore (L' := [(7, .int 0), (0, .ref (gm_am θ)), (1, .int x1), (2, .int x2), (3, .int x3), (4, .int x4), (5, .int x5), (6, .int x6)]) h (by decide) rfl dX7_areSame_94 ?_
              refine gx_iload h 6 rfl dX7_areSame_96 ?_
              refine gx_iconst (v := 1) h dX7_areSame_98 (by decide) ?_
              refine gx_iadd h dX7_areSame_99 ?_
              refine gx_istore (L' := [(8, .int (x5 + 1)), (7, .int 0), (0, .ref (gm_am θ)), (1, .int x1), (2, .int x2), (3, .int x3), (4, .int x4), (5, .int x5), (6, .int x6)]) h (by decide) rfl dX7_areSame_100 ?_
              refine gx_iload_n h 4 rfl dX7_areSame_102 ?_
              refine gx_iconst (v := 1) h dX7_areSame_103 (by decide) ?_
              refine gx_iadd h dX7_areSame_104 ?_
              refine gx_istore (L' := [(9, .int (x2 + 1)), (8, .int (x5 + 1)), (7, .int 0), (0, .ref (gm_am θ)), (1, .int x1), (2, .int x2), (3, .int x3), (4, .int x4), (5, .int x5), (6, .int x6)]) h (by decide) rfl dX7_areSame_105 ?_
              exact gx_sub [3, 4, 5, 6, 7, 8, 9, 2, 1, 0] rfl k
            · replace k := k.1 c
              exact k
        · replace k := k.2 c
          exact gx_sub [] rfl k
theorem bm_areSame_65 {θ : gm_T} {K : gx_K} {P : Int32 → gm_X → Prop} {X : gm_X} (h : gm_K θ K mX7_areSame) (k : P 0 X) : gm_G θ K mX7_areSame (gm_Pi P) 65 [] [] X := by
  refine gx_iconst (v := 0) h dX7_areSame_65 (by decide) ?_
  exact gx_zret h rfl rfl dX7_areSame_66 ⟨_, rfl, k⟩
theorem bm_areSame_89 {θ : gm_T} {K : gx_K} {P : Int32 → gm_X → Prop} {X : gm_X} {x1 x2 x3 x4 x5 x6 : Int32} (h : gm_K θ K mX7_areSame) (k : gm_G θ K mX7_areSame (gm_Pi P) 107 [(0, .ref (gm_am θ)), (1, .int x1), (2, .int x2), (3, .int x3), (4, .int x4), (5, .int x5), (6, .int x6), (7, .int 1), (8, .int (x5 + 1)), (9, .int (x2 + 1))] [] X) : gm_G θ K mX7_areSame (gm_Pi P) 89 [(0, .ref (gm_am θ)), (1, .int x1), (2, .int x2), (3, .int x3), (4, .int x4), (5, .int x5), (6, .int x6)] [] X := by
  refine gx_iconst (v := 1) h dX7_areSame_89 (by decide) ?_
  refine gx_goto (tgt := 94) h (by decide) dX7_areSame_90 ?_
  refine gx_istore (L' := [(7, .int 1), (0, .ref (gm_am θ)), (1, .int x1), (2, .int x2), (3, .int x3), (4, .int x4), (5, .int x5), (6, .int x6)]) h (by decide) rfl dX7_areSame_94 ?_
  refine gx_iload h 6 rfl dX7_areSame_96 ?_
  refine gx_iconst (v := 1) h dX7_areSame_98 (by decide) ?_
  refine gx_iadd h dX7_areSame_99 ?_
  refine gx_istore (L' := [(8, .int (x5 + 1)), (7, .int 1), (0, .ref (gm_am θ)), (1, .int x1), (2, .int x2), (3, .int x3), (4, .int x4), (5, .int x5), (6, .int x6)]) h (by decide) rfl dX7_areSame_100 ?_
  refine gx_iload_n h 4 rfl dX7_areSame_102 ?_
  refine gx_iconst (v := 1) h dX7_areSame_103 (by decide) ?_
  refine gx_iadd h dX7_areSame_104 ?_
  refine gx_istore (L' := [(9, .int (x2 + 1)), (8, .int (x5 + 1)), (7, .int 1), (0, .ref (gm_am θ)), (1, .int x1), (2, .int x2), (3, .int x3), (4, .int x4), (5, .int x5), (6, .int x6)]) h (by decide) rfl dX7_areSame_105 ?_
  exact gx_sub [3, 4, 5, 6, 7, 8, 9, 2, 1, 0] rfl k
theorem bm_areSame_107 {θ : gm_T} {K : gx_K} {P : Int32 → gm_X → Prop} {X : gm_X} {x1 x2 x3 x4 x5 x6 x7 x8 x9 : Int32} (h : gm_K θ K mX7_areSame) (k : gx_C (gm_O θ) mX7_end [.ref (gm_am θ), .int x1, .int x2] X (gm_Pi (fun r112 X112 => ((r112 ≤ x9 → P 1 X112) ∧ (¬ r112 ≤ x9 → ((x7 = 0 → vp_in (x3 + x9) 60 ∧ vp_in (x6 + x8) 60 ∧ (((X112.2 28 (x3 + x9).toNatClampNeg) = (X112.2 28 (x6 + x8).toNatClampNeg) → gm_G θ K mX7_areSame (gm_Pi P) 147 [(0, .ref (gm_am θ)), (1, .int x1), (2, .int x2), (3, .int x3), (4, .int x4), (5, .int x5), (6, .int x6), (7, .int x7), (8, .int x8), (9, .int x9)] [] X112) ∧ (¬ (X112.2 28 (x3 + x9).toNatClampNeg) = (X112.2 28 (x6 + x8).toNatClampNeg) → P 0 X112))) ∧ (¬ x7 = 0 → gm_G θ K mX7_areSame (gm_Pi P) 147 [(0, .ref (gm_am θ)), (1, .int x1), (2, .int x2), (3, .int x3), (4, .int x4), (5, .int x5), (6, .int x6), (7, .int x7), (8, .int x8), (9, .int x9)] [] X112))))))) : gm_G θ K mX7_areSame (gm_Pi P) 107 [(0, .ref (gm_am θ)), (1, .int x1), (2, .int x2), (3, .int x3), (4, .int x4), (5, .int x5), (6, .int x6), (7, .int x7), (8, .int x8), (9, .int x9)] [] X := by
  refine gx_iload h 9 rfl dX7_areSame_107 ?_
  refine gx_aload_n h 0 rfl dX7_areSame_109 ?_
  refine gx_iload_n h 1 rfl dX7_areSame_110 ?_
  refine gx_iload_n h 2 rfl dX7_areSame_111 ?_
  refine gm_c_end h rfl ⟨Nat.le_of_ble_eq_true rfl, Nat.le_of_ble_eq_true rfl⟩ (Nat.le_of_ble_eq_true rfl) dX7_areSame_112 (gx_C.mono k ?_)
  rintro _ X112 ⟨r112, rfl, k⟩
  refine ⟨r112, rfl, ?_⟩
  refine gx_icmp_ge (tgt := 322) h (by decide) dX7_areSame_115 (fun c => ?_) (fun c => ?_)
  · replace k := k.1 c
    refine gx_iconst (v := 1) h dX7_areSame_322 (by decide) ?_
    exact gx_zret h rfl rfl dX7_areSame_323 ⟨_, rfl, k⟩
  · replace k := k.2 c
    refine gx_iload h 7 rfl dX7_areSame_118 ?_
    refine gx_if_ne (tgt := 147) h (by decide) dX7_areSame_120 (fun c => ?_) (fun c => ?_)
    · replace k := k.2 c
      exact k
    · replace k := k.1 c
      refine gx_aload_n h 0 rfl dX7_areSame_123 ?_
      refine gm_get28 h rfl dX7_areSame_124 ?_
      refine gx_iload_n h 3 rfl dX7_areSame_127 ?_
      refine gx_iload h 9 rfl dX7_areSame_128 ?_
      refine gx_iadd h dX7_areSame_130 ?_
      refine gm_ld28 h k.1 dX7_areSame_131 ?_
      replace k := k.2
      refine gx_aload_n h 0 rfl dX7_areSame_132 ?_
      refine gm_get28 h rfl dX7_areSame_133 ?_
      refine gx_iload h 6 rfl dX7_areSame_136 ?_
      refine gx_iload h 8 rfl dX7_areSame_138 ?_
      refine gx_iadd h dX7_areSame_140 ?_
      refine gm_ld28 h k.1 dX7_areSame_141 ?_
      replace k := k.2
      refine gx_icmp_eq (tgt := 147) h (by decide) dX7_areSame_142 (fun c => ?_) (fun c => ?_)
      · replace k := k.1 c
        exact k
      · replace k := k.2 c
        refine gx_iconst (v := 0) h dX7_areSame_145 (by decide) ?_
        exact gx_zret h rfl rfl dX7_areSame_146 ⟨_, rfl, k⟩
theorem bm_areSame_147 {θ : gm_T} {K : gx_K} {P : Int32 → gm_X → Prop} {X : gm_X} {x1 x2 x3 x4 x5 x6 x7 x8 x9 : Int32} (h : gm_K θ K mX7_areSame) (k : ((x7 = 0 → gx_C (gm_O θ) mX7_end [.ref (gm_am θ), .int x4, .int x8] X (gm_Pi (fun r157 X157 => gm_G θ K mX7_areSame (gm_Pi P) 162 [(0, .ref (gm_am θ)), (1, .int x1), (2, .int x2), (3, .int x3), (4, .int x4), (5, .int x5), (6, .int x6), (7, .int x7), (8, .int r157), (9, .int x9)] [] X157))) ∧ (¬ x7 = 0 → gm_G θ K mX7_areSame (gm_Pi P) 162 [(0, .ref (gm_am θ)), (1, .int x1), (2, .int x2), (3, .int x3), (4, .int x4), (5, .int x5), (6, .int x6), (7, .int x7), (8, .int x8), (9, .int x9)] [] X))) : gm_G θ K mX7_areSame (gm_Pi P) 147 [(0, .ref (gm_am θ)), (1, .int x1), (2, .int x2), (3, .int x3), (4, .int x4), (5, .int x5), (6, .int x6), (7, .int x7), (8, .int x8), (9, .int x9)] [] X := by
  refine gx_iload h 7 rfl dX7_areSame_147 ?_
  refine gx_if_ne (tgt := 162) h (by decide) dX7_areSame_149 (fun c => ?_) (fun c => ?_)
  · replace k := k.2 c
    exact k
  · replace k := k.1 c
    refine gx_aload_n h 0 rfl dX7_areSame_152 ?_
    refine gx_iload h 4 rfl dX7_areSame_153 ?_
    refine gx_iload h 8 rfl dX7_areSame_155 ?_
    refine gm_c_end h rfl ⟨Nat.le_of_ble_eq_true rfl, Nat.le_of_ble_eq_true rfl⟩ (Nat.le_of_ble_eq_true rfl) dX7_areSame_157 (gx_C.mono k ?_)
    rintro _ X157 ⟨r157, rfl, k⟩
    refine ⟨r157, rfl, ?_⟩
    refine gx_istore (L' := [(8, .int r157), (0, .ref (gm_am θ)), (1, .int x1), (2, .int x2), (3, .int x3), (4, .int x4), (5, .int x5), (6, .int x6), (7, .int x7), (9, .int x9)]) h (by decide) rfl dX7_areSame_160 ?_
    exact gx_sub [1, 2, 3, 4, 5, 6, 7, 8, 0, 9] rfl k
theorem bm_areSame_162 {θ : gm_T} {K : gx_K} {P : Int32 → gm_X → Prop} {X : gm_X} {x1 x2 x3 x4 x5 x6 x7 x8 x9 : Int32} (h : gm_K θ K mX7_areSame) (k : gm_G θ K mX7_areSame (gm_Pi P) 173 [(0, .ref (gm_am θ)), (1, .int x1), (2, .int x2), (3, .int x3), (4, .int x4), (5, .int x5), (6, .int x6), (7, .int x7), (8, .int x8), (9, .int x9), (10, .int 0), (11, .int 0), (12, .int (x2 + 1))] [] X) : gm_G θ K mX7_areSame (gm_Pi P) 162 [(0, .ref (gm_am θ)), (1, .int x1), (2, .int x2), (3, .int x3), (4, .int x4), (5, .int x5), (6, .int x6), (7, .int x7), (8, .int x8), (9, .int x9)] [] X := by
  refine gx_iconst (v := 0) h dX7_areSame_162 (by decide) ?_
  refine gx_istore (L' := [(10, .int 0), (0, .ref (gm_am θ)), (1, .int x1), (2, .int x2), (3, .int x3), (4, .int x4), (5, .int x5), (6, .int x6), (7, .int x7), (8, .int x8), (9, .int x9)]) h (by decide) rfl dX7_areSame_163 ?_
  refine gx_iconst (v := 0) h dX7_areSame_165 (by decide) ?_
  refine gx_istore (L' := [(11, .int 0), (10, .int 0), (0, .ref (gm_am θ)), (1, .int x1), (2, .int x2), (3, .int x3), (4, .int x4), (5, .int x5), (6, .int x6), (7, .int x7), (8, .int x8), (9, .int x9)]) h (by decide) rfl dX7_areSame_166 ?_
  refine gx_iload_n h 4 rfl dX7_areSame_168 ?_
  refine gx_iconst (v := 1) h dX7_areSame_169 (by decide) ?_
  refine gx_iadd h dX7_areSame_170 ?_
  refine gx_istore (L' := [(12, .int (x2 + 1)), (11, .int 0), (10, .int 0), (0, .ref (gm_am θ)), (1, .int x1), (2, .int x2), (3, .int x3), (4, .int x4), (5, .int x5), (6, .int x6), (7, .int x7), (8, .int x8), (9, .int x9)]) h (by decide) rfl dX7_areSame_171 ?_
  exact gx_sub [3, 4, 5, 6, 7, 8, 9, 10, 11, 12, 2, 1, 0] rfl k
theorem bm_areSame_173 {θ : gm_T} {K : gx_K} {P : Int32 → gm_X → Prop} {X : gm_X} {x1 x2 x3 x4 x5 x6 x7 x8 x9 x10 x11 x12 : Int32} (h : gm_K θ K mX7_areSame) (k : gx_C (gm_O θ) mX7_end [.ref (gm_am θ), .int x1, .int x2] X (gm_Pi (fun r178 X178 => ((r178 ≤ x12 → gm_G θ K mX7_areSame (gm_Pi P) 232 [(0, .ref (gm_am θ)), (1, .int x1), (2, .int x2), (3, .int x3), (4, .int x4), (5, .int x5), (6, .int x6), (7, .int x7), (8, .int x8), (9, .int x9), (10, .int x10), (11, .int x11)] [] X178) ∧ (¬ r178 ≤ x12 → ((x7 = 0 → gm_G θ K mX7_areSame (gm_Pi P) 232 [(0, .ref (gm_am θ)), (1, .int x1), (2, .int x2), (3, .int x3), (4, .int x4), (5, .int x5), (6, .int x6), (7, .int x7), (8, .int x8), (9, .int x9), (10, .int x10), (11, .int x11)] [] X178) ∧ (¬ x7 = 0 → vp_in (x3 + x12) 60 ∧ vp_in (x3 + x9) 60 ∧ (((X178.2 28 (x3 + x12).toNatClampNeg) = (X178.2 28 (x3 + x9).toNatClampNeg) → gx_C (gm_O θ) mX7_end [.ref (gm_am θ), .int x1, .int x12] X178 (gm_Pi (fun r224 X224 => gm_G θ K mX7_areSame (gm_Pi P) 173 [(0, .ref (gm_am θ)), (1, .int x1), (2, .int x2), (3, .int x3), (4, .int x4), (5, .int x5), (6, .int x6), (7, .int x7), (8, .int x8), (9, .int x9), (10, .int (x10 + 1)), (11, .int x11), (12, .int r224)] [] X224))) ∧ (¬ (X178.2 28 (x3 + x12).toNatClampNeg) = (X178.2 28 (x3 + x9).toNatClampNeg) → gx_C (gm_O θ) mX7_end [.ref (gm_am θ), .int x1, .int x12] X178 (gm_Pi (fun r224 X224 => gm_G θ K mX7_areSame (gm_Pi P) 173 [(0, .ref (gm_am θ)), (1, .int x1), (2, .int x2), (3, .int x3), (4, .int x4), (5, .int x5), (6, .int x6), (7, .int x7), (8, .int x8), (9, .int x9), (10, .int (x10 + 0)), (11, .int x11), (12, .int r224)] [] X224))))))))))) : gm_G θ K mX7_areSame (gm_Pi P) 173 [(0, .ref (gm_am θ)), (1, .int x1), (2, .int x2), (3, .int x3), (4, .int x4), (5, .int x5), (6, .int x6), (7, .int x7), (8, .int x8), (9, .int x9), (10, .int x10), (11, .int x11), (12, .int x12)] [] X := by
  refine gx_iload h 12 rfl dX7_areSame_173 ?_
  refine gx_aload_n h 0 rfl dX7_areSame_175 ?_
  refine gx_iload_n h 1 rfl dX7_areSame_176 ?_
  refine gx_iload_n h 2 rfl dX7_areSame_177 ?_
  refine gm_c_end h rfl ⟨Nat.le_of_ble_eq_true rfl, Nat.le_of_ble_eq_true rfl⟩ (Nat.le_of_ble_eq_true rfl) dX7_areSame_178 (gx_C.mono k ?_)
  rintro _ X178 ⟨r178, rfl, k⟩
  refine ⟨r178, rfl, ?_⟩
  refine gx_icmp_ge (tgt := 232) h (by decide) dX7_areSame_181 (fun c => ?_) (fun c => ?_)
  · replace k := k.1 c
    exact gx_sub [0, 1, 2, 3, 4, 5, 6, 7, 8, 9, 10, 11] rfl k
  · replace k := k.2 c
    refine gx_iload h 7 rfl dX7_areSame_184 ?_
    refine gx_if_eq (tgt := 232) h (by decide) dX7_areSame_186 (fun c => ?_) (fun c => ?_)
    · replace k := k.1 c
      exact gx_sub [0, 1, 2, 3, 4, 5, 6, 7, 8, 9, 10, 11] rfl k
    · replace k := k.2 c
      refine gx_iload h 10 rfl dX7_areSame_189 ?_
      refine gx_aload_n h 0 rfl dX7_areSame_191 ?_
      refine gm_get28 h rfl dX7_areSame_192 ?_
      refine gx_iload_n h 3 rfl dX7_areSame_195 ?_
      refine gx_iload h 12 rfl dX7_areSame_196 ?_
      refine gx_iadd h dX7_areSame_198 ?_
      refine gm_ld28 h k.1 dX7_areSame_199 ?_
      replace k := k.2
      refine gx_aload_n h 0 rfl dX7_areSame_200 ?_
      refine gm_get28 h rfl dX7_areSame_201 ?_
      refine gx_iload_n h 3 rfl dX7_areSame_204 ?_
      refine gx_iload h 9 rfl dX7_areSame_205 ?_
      refine gx_iadd h dX7_areSame_207 ?_
      refine gm_ld28 h k.1 dX7_areSame_208 ?_
      replace k := k.2
      refine gx_icmp_ne (tgt := 216) h (by decide) dX7_areSame_209 (fun c => ?_) (fun c => ?_)
      · replace k := k.2 c
        refine gx_iconst (v := 0) h dX7_areSame_216 (by decide) ?_
        refine gx_iadd h dX7_areSame_217 ?_
        refine gx_istore (L' := [(10, .int (x10 + 0)), (0, .ref (gm_am θ)), (1, .int x1), (2, .int x2), (3, .int x3), (4, .int x4), (5, .int x5), (6, .int x6), (7, .int x7), (8, .int x8), (9, .int x9), (11, .int x11), (12, .int x12)]) h (by decide) rfl dX7_areSame_218 ?_
        refine gx_aload_n h 1 rfl dX7_areSame_220 ?_
        refine gx_iload_n h 2 rfl dX7_areSame_221 ?_
        refine gx_iload h 12 rfl dX7_areSame_222 ?_
        refine gm_c_end h rfl ⟨Nat.le_of_ble_eq_true rfl, Nat.le_of_ble_eq_true rfl⟩ (Nat.le_of_ble_eq_true rfl) dX7_areSame_224 (gx_C.mono k ?_)
        rintro _ X224 ⟨r224, rfl, k⟩
        refine ⟨r224, rfl, ?_⟩
        refine gx_istore (L' := [(12, .int r224), (10, .int (x10 + 0)), (0, .ref (gm_am θ)), (1, .int x1), (2, .int x2), (3, .int x3), (4, .int x4), (5, .int x5), (6, .int x6), (7, .int x7), (8, .int x8), (9, .int x9), (11, .int x11)]) h (by decide) rfl dX7_areSame_227 ?_
        refine gx_goto (tgt := 173) h (by decide) dX7_areSame_229 ?_
        exact gx_sub [2, 3, 4, 5, 6, 7, 8, 9, 10, 11, 1, 12, 0] rfl k
      · replace k := k.1 c
        refine gx_iconst (v := 1) h dX7_areSame_212 (by decide) ?_
        refine gx_goto (tgt := 217) h (by decide) dX7_areSame_213 ?_
        refine gx_iadd h dX7_areSame_217 ?_
        refine gx_istore (L' := [(10, .int (x10 + 1)), (0, .ref (gm_am θ)), (1, .int x1), (2, .int x2), (3, .int x3), (4, .int x4), (5, .int x5), (6, .int x6), (7, .int x7), (8, .int x8), (9, .int x9), (11, .int x11), (12, .int x12)]) h (by decide) rfl dX7_areSame_218 ?_
        refine gx_aload_n h 1 rfl dX7_areSame_220 ?_
        refine gx_iload_n h 2 rfl dX7_areSame_221 ?_
        refine gx_iload h 12 rfl dX7_areSame_222 ?_
        refine gm_c_end h rfl ⟨Nat.le_of_ble_eq_true rfl, Nat.le_of_ble_eq_true rfl⟩ (Nat.le_of_ble_eq_true rfl) dX7_areSame_224 (gx_C.mono k ?_)
        rintro _ X224 ⟨r224, rfl, k⟩
        refine ⟨r224, rfl, ?_⟩
        refine gx_istore (L' := [(12, .int r224), (10, .int (x10 + 1)), (0, .ref (gm_am θ)), (1, .int x1), (2, .int x2), (3, .int x3), (4, .int x4), (5, .int x5), (6, .int x6), (7, .int x7), (8, .int x8), (9, .int x9), (11, .int x11)]) h (by decide) rfl dX7_areSame_227 ?_
        refine gx_goto (tgt := 173) h (by decide) dX7_areSame_229 ?_
        exact gx_sub [2, 3, 4, 5, 6, 7, 8, 9, 10, 11, 1, 12, 0] rfl k
theorem bm_areSame_232 {θ : gm_T} {K : gx_K} {P : Int32 → gm_X → Prop} {X : gm_X} {x1 x2 x3 x4 x5 x6 x7 x8 x9 x10 x11 : Int32} (h : gm_K θ K mX7_areSame) (k : gm_G θ K mX7_areSame (gm_Pi P) 238 [(0, .ref (gm_am θ)), (1, .int x1), (2, .int x2), (3, .int x3), (4, .int x4), (5, .int x5), (6, .int x6), (7, .int x7), (8, .int x8), (9, .int x9), (10, .int x10), (11, .int x11), (12, .int (x5 + 1))] [] X) : gm_G θ K mX7_areSame (gm_Pi P) 232 [(0, .ref (gm_am θ)), (1, .int x1), (2, .int x2), (3, .int x3), (4, .int x4), (5, .int x5), (6, .int x6), (7, .int x7), (8, .int x8), (9, .int x9), (10, .int x10), (11, .int x11)] [] X := by
  refine gx_iload h 5 rfl dX7_areSame_232 ?_
  refine gx_iconst (v := 1) h dX7_areSame_234 (by decide) ?_
  refine gx_iadd h dX7_areSame_235 ?_
  refine gx_istore (L' := [(12, .int (x5 + 1)), (0, .ref (gm_am θ)), (1, .int x1), (2, .int x2), (3, .int x3), (4, .int x4), (5, .int x5), (6, .int x6), (7, .int x7), (8, .int x8), (9, .int x9), (10, .int x10), (11, .int x11)]) h (by decide) rfl dX7_areSame_236 ?_
  exact gx_sub [1, 2, 3, 4, 5, 6, 7, 8, 9, 10, 11, 12, 0] rfl k
theorem bm_areSame_238 {θ : gm_T} {K : gx_K} {P : Int32 → gm_X → Prop} {X : gm_X} {x1 x2 x3 x4 x5 x6 x7 x8 x9 x10 x11 x12 : Int32} (h : gm_K θ K mX7_areSame) (k : gx_C (gm_O θ) mX7_end [.ref (gm_am θ), .int x4, .int x5] X (gm_Pi (fun r245 X245 => ((r245 ≤ x12 → gm_G θ K mX7_areSame (gm_Pi P) 301 [(0, .ref (gm_am θ)), (1, .int x1), (2, .int x2), (3, .int x3), (4, .int x4), (5, .int x5), (6, .int x6), (7, .int x7), (8, .int x8), (9, .int x9), (10, .int x10), (11, .int x11)] [] X245) ∧ (¬ r245 ≤ x12 → ((x7 = 0 → gm_G θ K mX7_areSame (gm_Pi P) 301 [(0, .ref (gm_am θ)), (1, .int x1), (2, .int x2), (3, .int x3), (4, .int x4), (5, .int x5), (6, .int x6), (7, .int x7), (8, .int x8), (9, .int x9), (10, .int x10), (11, .int x11)] [] X245) ∧ (¬ x7 = 0 → vp_in (x6 + x12) 60 ∧ vp_in (x3 + x9) 60 ∧ (((X245.2 28 (x6 + x12).toNatClampNeg) = (X245.2 28 (x3 + x9).toNatClampNeg) → gx_C (gm_O θ) mX7_end [.ref (gm_am θ), .int x4, .int x12] X245 (gm_Pi (fun r293 X293 => gm_G θ K mX7_areSame (gm_Pi P) 238 [(0, .ref (gm_am θ)), (1, .int x1), (2, .int x2), (3, .int x3), (4, .int x4), (5, .int x5), (6, .int x6), (7, .int x7), (8, .int x8), (9, .int x9), (10, .int x10), (11, .int (x11 + 1)), (12, .int r293)] [] X293))) ∧ (¬ (X245.2 28 (x6 + x12).toNatClampNeg) = (X245.2 28 (x3 + x9).toNatClampNeg) → gx_C (gm_O θ) mX7_end [.ref (gm_am θ), .int x4, .int x12] X245 (gm_Pi (fun r293 X293 => gm_G θ K mX7_areSame (gm_Pi P) 238 [(0, .ref (gm_am θ)), (1, .int x1), (2, .int x2), (3, .int x3), (4, .int x4), (5, .int x5), (6, .int x6), (7, .int x7), (8, .int x8), (9, .int x9), (10, .int x10), (11, .int (x11 + 0)), (12, .int r293)] [] X293))))))))))) : gm_G θ K mX7_areSame (gm_Pi P) 238 [(0, .ref (gm_am θ)), (1, .int x1), (2, .int x2), (3, .int x3), (4, .int x4), (5, .int x5), (6, .int x6), (7, .int x7), (8, .int x8), (9, .int x9), (10, .int x10), (11, .int x11), (12, .int x12)] [] X := by
  refine gx_iload h 12 rfl dX7_areSame_238 ?_
  refine gx_aload_n h 0 rfl dX7_areSame_240 ?_
  refine gx_iload h 4 rfl dX7_areSame_241 ?_
  refine gx_iload h 5 rfl dX7_areSame_243 ?_
  refine gm_c_end h rfl ⟨Nat.le_of_ble_eq_true rfl, Nat.le_of_ble_eq_true rfl⟩ (Nat.le_of_ble_eq_true rfl) dX7_areSame_245 (gx_C.mono k ?_)
  rintro _ X245 ⟨r245, rfl, k⟩
  refine ⟨r245, rfl, ?_⟩
  refine gx_icmp_ge (tgt := 301) h (by decide) dX7_areSame_248 (fun c => ?_) (fun c => ?_)
  · replace k := k.1 c
    exact gx_sub [0, 1, 2, 3, 4, 5, 6, 7, 8, 9, 10, 11] rfl k
  · replace k := k.2 c
    refine gx_iload h 7 rfl dX7_areSame_251 ?_
    refine gx_if_eq (tgt := 301) h (by decide) dX7_areSame_253 (fun c => ?_) (fun c => ?_)
    · replace k := k.1 c
      exact gx_sub [0, 1, 2, 3, 4, 5, 6, 7, 8, 9, 10, 11] rfl k
    · replace k := k.2 c
      refine gx_iload h 11 rfl dX7_areSame_256 ?_
      refine gx_aload_n h 0 rfl dX7_areSame_258 ?_
      refine gm_get28 h rfl dX7_areSame_259 ?_
      refine gx_iload h 6 rfl dX7_areSame_262 ?_
      refine gx_iload h 12 rfl dX7_areSame_264 ?_
      refine gx_iadd h dX7_areSame_266 ?_
      refine gm_ld28 h k.1 dX7_areSame_267 ?_
      replace k := k.2
      refine gx_aload_n h 0 rfl dX7_areSame_268 ?_
      refine gm_get28 h rfl dX7_areSame_269 ?_
      refine gx_iload_n h 3 rfl dX7_areSame_272 ?_
      refine gx_iload h 9 rfl dX7_areSame_273 ?_
      refine gx_iadd h dX7_areSame_275 ?_
      refine gm_ld28 h k.1 dX7_areSame_276 ?_
      replace k := k.2
      refine gx_icmp_ne (tgt := 284) h (by decide) dX7_areSame_277 (fun c => ?_) (fun c => ?_)
      · replace k := k.2 c
        refine gx_iconst (v := 0) h dX7_areSame_284 (by decide) ?_
        refine gx_iadd h dX7_areSame_285 ?_
        refine gx_istore (L' := [(11, .int (x11 + 0)), (0, .ref (gm_am θ)), (1, .int x1), (2, .int x2), (3, .int x3), (4, .int x4), (5, .int x5), (6, .int x6), (7, .int x7), (8, .int x8), (9, .int x9), (10, .int x10), (12, .int x12)]) h (by decide) rfl dX7_areSame_286 ?_
        refine gx_aload_n h 1 rfl dX7_areSame_288 ?_
        refine gx_iload h 5 rfl dX7_areSame_289 ?_
        refine gx_iload h 12 rfl dX7_areSame_291 ?_
        refine gm_c_end h rfl ⟨Nat.le_of_ble_eq_true rfl, Nat.le_of_ble_eq_true rfl⟩ (Nat.le_of_ble_eq_true rfl) dX7_areSame_293 (gx_C.mono k ?_)
        rintro _ X293 ⟨r293, rfl, k⟩
        refine ⟨r293, rfl, ?_⟩
        refine gx_istore (L' := [(12, .int r293), (11, .int (x11 + 0)), (0, .ref (gm_am θ)), (1, .int x1), (2, .int x2), (3, .int x3), (4, .int x4), (5, .int x5), (6, .int x6), (7, .int x7), (8, .int x8), (9, .int x9), (10, .int x10)]) h (by decide) rfl dX7_areSame_296 ?_
        refine gx_goto (tgt := 238) h (by decide) dX7_areSame_298 ?_
        exact gx_sub [2, 3, 4, 5, 6, 7, 8, 9, 10, 11, 12, 1, 0] rfl k
      · replace k := k.1 c
        refine gx_iconst (v := 1) h dX7_areSame_280 (by decide) ?_
        refine gx_goto (tgt := 285) h (by decide) dX7_areSame_281 ?_
        refine gx_iadd h dX7_areSame_285 ?_
        refine gx_istore (L' := [(11, .int (x11 + 1)), (0, .ref (gm_am θ)), (1, .int x1), (2, .int x2), (3, .int x3), (4, .int x4), (5, .int x5), (6, .int x6), (7, .int x7), (8, .int x8), (9, .int x9), (10, .int x10), (12, .int x12)]) h (by decide) rfl dX7_areSame_286 ?_
        refine gx_aload_n h 1 rfl dX7_areSame_288 ?_
        refine gx_iload h 5 rfl dX7_areSame_289 ?_
        refine gx_iload h 12 rfl dX7_areSame_291 ?_
        refine gm_c_end h rfl ⟨Nat.le_of_ble_eq_true rfl, Nat.le_of_ble_eq_true rfl⟩ (Nat.le_of_ble_eq_true rfl) dX7_areSame_293 (gx_C.mono k ?_)
        rintro _ X293 ⟨r293, rfl, k⟩
        refine ⟨r293, rfl, ?_⟩
        refine gx_istore (L' := [(12, .int r293), (11, .int (x11 + 1)), (0, .ref (gm_am θ)), (1, .int x1), (2, .int x2), (3, .int x3), (4, .int x4), (5, .int x5), (6, .int x6), (7, .int x7), (8, .int x8), (9, .int x9), (10, .int x10)]) h (by decide) rfl dX7_areSame_296 ?_
        refine gx_goto (tgt := 238) h (by decide) dX7_areSame_298 ?_
        exact gx_sub [2, 3, 4, 5, 6, 7, 8, 9, 10, 11, 12, 1, 0] rfl k
theorem bm_areSame_301 {θ : gm_T} {K : gx_K} {P : Int32 → gm_X → Prop} {X : gm_X} {x1 x2 x3 x4 x5 x6 x7 x8 x9 x10 x11 : Int32} (h : gm_K θ K mX7_areSame) (k : ((x10 = x11 → gx_C (gm_O θ) mX7_end [.ref (gm_am θ), .int x1, .int x9] X (gm_Pi (fun r314 X314 => gm_G θ K mX7_areSame (gm_Pi P) 107 [(0, .ref (gm_am θ)), (1, .int x1), (2, .int x2), (3, .int x3), (4, .int x4), (5, .int x5), (6, .int x6), (7, .int x7), (8, .int x8), (9, .int r314)] [] X314))) ∧ (¬ x10 = x11 → P 0 X))) : gm_G θ K mX7_areSame (gm_Pi P) 301 [(0, .ref (gm_am θ)), (1, .int x1), (2, .int x2), (3, .int x3), (4, .int x4), (5, .int x5), (6, .int x6), (7, .int x7), (8, .int x8), (9, .int x9), (10, .int x10), (11, .int x11)] [] X := by
  refine gx_iload h 10 rfl dX7_areSame_301 ?_
  refine gx_iload h 11 rfl dX7_areSame_303 ?_
  refine gx_icmp_eq (tgt := 310) h (by decide) dX7_areSame_305 (fun c => ?_) (fun c => ?_)
  · replace k := k.1 c
    refine gx_aload_n h 0 rfl dX7_areSame_310 ?_
    refine gx_iload_n h 1 rfl dX7_areSame_311 ?_
    refine gx_iload h 9 rfl dX7_areSame_312 ?_
    refine gm_c_end h rfl ⟨Nat.le_of_ble_eq_true rfl, Nat.le_of_ble_eq_true rfl⟩ (Nat.le_of_ble_eq_true rfl) dX7_areSame_314 (gx_C.mono k ?_)
    rintro _ X314 ⟨r314, rfl, k⟩
    refine ⟨r314, rfl, ?_⟩
    refine gx_istore (L' := [(9, .int r314), (0, .ref (gm_am θ)), (1, .int x1), (2, .int x2), (3, .int x3), (4, .int x4), (5, .int x5), (6, .int x6), (7, .int x7), (8, .int x8), (10, .int x10), (11, .int x11)]) h (by decide) rfl dX7_areSame_317 ?_
    refine gx_goto (tgt := 107) h (by decide) dX7_areSame_319 ?_
    exact gx_sub [1, 2, 3, 4, 5, 6, 7, 8, 9, 0] rfl k
  · replace k := k.2 c
    refine gx_iconst (v := 0) h dX7_areSame_308 (by decide) ?_
    exact gx_zret h rfl rfl dX7_areSame_309 ⟨_, rfl, k⟩
/-! unlike -/
theorem em_unlike {θ : gm_T} {P : Int32 → gm_X → Prop} {X : gm_X} {x1 : Int32} (body : ∀ K, gm_K θ K mX7_unlike → gm_G θ K mX7_unlike (gm_Pi P) 0 [(0, .ref (gm_am θ)), (1, .int x1)] [] X) : gx_C (gm_O θ) mX7_unlike [.ref (gm_am θ), .int x1] X (gm_Pi P) :=
  gx_C.intro (gm_z θ) (by decide) (Nat.le_of_ble_eq_true rfl) body
theorem bm_unlike_0 {θ : gm_T} {K : gx_K} {P : Int32 → gm_X → Prop} {X : gm_X} {x1 : Int32} (h : gm_K θ K mX7_unlike) (k : gx_C (gm_O θ) mX7_lacks [.ref (gm_am θ), .int x1] X (gm_Pi (fun r2 X2 => ((0 ≤ r2 → gx_C (gm_O θ) mX7_sort [.ref (gm_am θ), .int x1, .int x1] X2 (gm_Pv (fun X19 => gm_G θ K mX7_unlike (gm_Pi P) 27 [(0, .ref (gm_am θ)), (1, .int x1), (3, .int 0), (4, .int 0)] [] X19))) ∧ (¬ 0 ≤ r2 → gx_C (gm_O θ) mX7_found0 [.ref (gm_am θ), .int r2] X2 (gm_Pi (fun r12 X12 => P r12 X12))))))) : gm_G θ K mX7_unlike (gm_Pi P) 0 [(0, .ref (gm_am θ)), (1, .int x1)] [] X := by
  refine gx_aload_n h 0 rfl dX7_unlike_0 ?_
  refine gx_iload_n h 1 rfl dX7_unlike_1 ?_
  refine gm_c_lacks h rfl ⟨Nat.le_of_ble_eq_true rfl, Nat.le_of_ble_eq_true rfl⟩ (Nat.le_of_ble_eq_true rfl) dX7_unlike_2 (gx_C.mono k ?_)
  rintro _ X2 ⟨r2, rfl, k⟩
  refine ⟨r2, rfl, ?_⟩
  refine gx_istore_n (L' := [(2, .int r2), (0, .ref (gm_am θ)), (1, .int x1)]) h (by decide) rfl dX7_unlike_5 ?_
  refine gx_iload_n h 0 rfl dX7_unlike_6 ?_
  refine gx_if_ge (tgt := 16) h (by decide) dX7_unlike_7 (fun c => ?_) (fun c => ?_)
  · replace k := k.1 c
    refine gx_aload_n h 1 rfl dX7_unlike_16 ?_
    refine gx_iload_n h 2 rfl dX7_unlike_17 ?_
    refine gx_iload_n h 2 rfl dX7_unlike_18 ?_
    refine gm_c_sort h rfl ⟨Nat.le_of_ble_eq_true rfl, Nat.le_of_ble_eq_true rfl⟩ (Nat.le_of_ble_eq_true rfl) dX7_unlike_19 (gx_C.mono k ?_)
    rintro _ X19 ⟨rfl, k⟩
    refine ⟨rfl, ?_⟩
    refine gx_iconst (v := 0) h dX7_unlike_22 (by decide) ?_
    refine gx_istore_n (L' := [(3, .int 0), (2, .int r2), (0, .ref (gm_am θ)), (1, .int x1)]) h (by decide) rfl dX7_unlike_23 ?_
    refine gx_iconst (v := 0) h dX7_unlike_24 (by decide) ?_
    refine gx_istore (L' := [(4, .int 0), (3, .int 0), (2, .int r2), (0, .ref (gm_am θ)), (1, .int x1)]) h (by decide) rfl dX7_unlike_25 ?_
    exact gx_sub [3, 4, 1, 0] rfl k
  · replace k := k.2 c
    refine gx_aload_n h 1 rfl dX7_unlike_10 ?_
    refine gx_iload_n h 0 rfl dX7_unlike_11 ?_
    refine gm_c_found0 h rfl ⟨Nat.le_of_ble_eq_true rfl, Nat.le_of_ble_eq_true rfl⟩ (Nat.le_of_ble_eq_true rfl) dX7_unlike_12 (gx_C.mono k ?_)
    rintro _ X12 ⟨r12, rfl, k⟩
    refine ⟨r12, rfl, ?_⟩
    exact gx_iret h rfl dX7_unlike_15 ⟨_, rfl, k⟩
theorem bm_unlike_27 {θ : gm_T} {K : gx_K} {P : Int32 → gm_X → Prop} {X : gm_X} {x1 x3 x4 : Int32} (h : gm_K θ K mX7_unlike) (k : vp_in x1 11 ∧ (((X.2 1 x1.toNatClampNeg) ≤ x4 → P x3 X) ∧ (¬ (X.2 1 x1.toNatClampNeg) ≤ x4 → vp_in x4 60 ∧ (((X.2 28 x4.toNatClampNeg) = x4 → gm_G θ K mX7_unlike (gm_Pi P) 27 [(0, .ref (gm_am θ)), (1, .int x1), (3, .int (x3 + 1)), (4, .int (x4 + 1))] [] X) ∧ (¬ (X.2 28 x4.toNatClampNeg) = x4 → gm_G θ K mX7_unlike (gm_Pi P) 27 [(0, .ref (gm_am θ)), (1, .int x1), (3, .int (x3 + 0)), (4, .int (x4 + 1))] [] X))))) : gm_G θ K mX7_unlike (gm_Pi P) 27 [(0, .ref (gm_am θ)), (1, .int x1), (3, .int x3), (4, .int x4)] [] X := by
  refine gx_iload h 3 rfl dX7_unlike_27 ?_
  refine gx_aload_n h 0 rfl dX7_unlike_29 ?_
  refine gm_get1 h rfl dX7_unlike_30 ?_
  refine gx_iload_n h 1 rfl dX7_unlike_33 ?_
  refine gm_ld1 h k.1 dX7_unlike_34 ?_
  replace k := k.2
  refine gx_icmp_ge (tgt := 64) h (by decide) dX7_unlike_35 (fun c => ?_) (fun c => ?_)
  · replace k := k.1 c
    refine gx_iload_n h 2 rfl dX7_unlike_64 ?_
    exact gx_iret h rfl dX7_unlike_65 ⟨_, rfl, k⟩
  · replace k := k.2 c
    refine gx_iload_n h 2 rfl dX7_unlike_38 ?_
    refine gx_aload_n h 0 rfl dX7_unlike_39 ?_
    refine gm_get28 h rfl dX7_unlike_40 ?_
    refine gx_iload h 3 rfl dX7_unlike_43 ?_
    refine gm_ld28 h k.1 dX7_unlike_45 ?_
    replace k := k.2
    refine gx_iload h 3 rfl dX7_unlike_46 ?_
    refine gx_icmp_ne (tgt := 55) h (by decide) dX7_unlike_48 (fun c => ?_) (fun c => ?_)
    · replace k := k.2 c
      refine gx_iconst (v := 0) h dX7_unlike_55 (by decide) ?_
      refine gx_iadd h dX7_unlike_56 ?_
      refine gx_istore_n (L' := [(3, .int (x3 + 0)), (0, .ref (gm_am θ)), (1, .int x1), (4, .int x4)]) h (by decide) rfl dX7_unlike_57 ?_
      refine gx_iinc (v := x4 + 1) (L' := [(4, .int (x4 + 1)), (3, .int (x3 + 0)), (0, .ref (gm_am θ)), (1, .int x1)]) h 3 rfl rfl (by decide) rfl dX7_unlike_58 ?_
      refine gx_goto (tgt := 27) h (by decide) dX7_unlike_61 ?_
      exact gx_sub [2, 3, 1, 0] rfl k
    · replace k := k.1 c
      refine gx_iconst (v := 1) h dX7_unlike_51 (by decide) ?_
      refine gx_goto (tgt := 56) h (by decide) dX7_unlike_52 ?_
      refine gx_iadd h dX7_unlike_56 ?_
      refine gx_istore_n (L' := [(3, .int (x3 + 1)), (0, .ref (gm_am θ)), (1, .int x1), (4, .int x4)]) h (by decide) rfl dX7_unlike_57 ?_
      refine gx_iinc (v := x4 + 1) (L' := [(4, .int (x4 + 1)), (3, .int (x3 + 1)), (0, .ref (gm_am θ)), (1, .int x1)]) h 3 rfl rfl (by decide) rfl dX7_unlike_58 ?_
      refine gx_goto (tgt := 27) h (by decide) dX7_unlike_61 ?_
      exact gx_sub [2, 3, 1, 0] rfl k
/-! shared -/
theorem em_shared {θ : gm_T} {P : Int32 → gm_X → Prop} {X : gm_X} {x1 : Int32} {x2 : Int32} (body : ∀ K, gm_K θ K mX7_shared → gm_G θ K mX7_shared (gm_Pi P) 0 [(0, .ref (gm_am θ)), (1, .int x1), (2, .int x2)] [] X) : gx_C (gm_O θ) mX7_shared [.ref (gm_am θ), .int x1, .int x2] X (gm_Pi P) :=
  gx_C.intro (gm_z θ) (by decide) (Nat.le_of_ble_eq_true rfl) body
theorem bm_shared_0 {θ : gm_T} {K : gx_K} {P : Int32 → gm_X → Prop} {X : gm_X} {x1 x2 : Int32} (h : gm_K θ K mX7_shared) (k : gx_C (gm_O θ) mX7_lacks [.ref (gm_am θ), .int x1] X (gm_Pi (fun r2 X2 => ((0 ≤ r2 → gx_C (gm_O θ) mX7_lacks [.ref (gm_am θ), .int x2] X2 (gm_Pi (fun r18 X18 => ((0 ≤ r18 → gx_C (gm_O θ) mX7_sort [.ref (gm_am θ), .int x1, .int x2] X18 (gm_Pv (fun X35 => gm_G θ K mX7_shared (gm_Pi P) 44 [(0, .ref (gm_am θ)), (1, .int x1), (2, .int x2), (4, .int 0), (5, .int 0)] [] X35))) ∧ (¬ 0 ≤ r18 → gx_C (gm_O θ) mX7_found0 [.ref (gm_am θ), .int r18] X18 (gm_Pi (fun r28 X28 => P r28 X28))))))) ∧ (¬ 0 ≤ r2 → gx_C (gm_O θ) mX7_found0 [.ref (gm_am θ), .int r2] X2 (gm_Pi (fun r12 X12 => P r12 X12))))))) : gm_G θ K mX7_shared (gm_Pi P) 0 [(0, .ref (gm_am θ)), (1, .int x1), (2, .int x2)] [] X := by
  refine gx_aload_n h 0 rfl dX7_shared_0 ?_
  refine gx_iload_n h 1 rfl dX7_shared_1 ?_
  refine gm_c_lacks h rfl ⟨Nat.le_of_ble_eq_true rfl, Nat.le_of_ble_eq_true rfl⟩ (Nat.le_of_ble_eq_true rfl) dX7_shared_2 (gx_C.mono k ?_)
  rintro _ X2 ⟨r2, rfl, k⟩
  refine ⟨r2, rfl, ?_⟩
  refine gx_istore_n (L' := [(3, .int r2), (0, .ref (gm_am θ)), (1, .int x1), (2, .int x2)]) h (by decide) rfl dX7_shared_5 ?_
  refine gx_iload_n h 0 rfl dX7_shared_6 ?_
  refine gx_if_ge (tgt := 16) h (by decide) dX7_shared_7 (fun c => ?_) (fun c => ?_)
  · replace k := k.1 c
    refine gx_aload_n h 1 rfl dX7_shared_16 ?_
    refine gx_iload_n h 3 rfl dX7_shared_17 ?_
    refine gm_c_lacks h rfl ⟨Nat.le_of_ble_eq_true rfl, Nat.le_of_ble_eq_true rfl⟩ (Nat.le_of_ble_eq_true rfl) dX7_shared_18 (gx_C.mono k ?_)
    rintro _ X18 ⟨r18, rfl, k⟩
    refine ⟨r18, rfl, ?_⟩
    refine gx_istore_n (L' := [(3, .int r18), (0, .ref (gm_am θ)), (1, .int x1), (2, .int x2)]) h (by decide) rfl dX7_shared_21 ?_
    refine gx_iload_n h 0 rfl dX7_shared_22 ?_
    refine gx_if_ge (tgt := 32) h (by decide) dX7_shared_23 (fun c => ?_) (fun c => ?_)
    · replace k := k.1 c
      refine gx_aload_n h 1 rfl dX7_shared_32 ?_
      refine gx_iload_n h 2 rfl dX7_shared_33 ?_
      refine gx_iload_n h 3 rfl dX7_shared_34 ?_
      refine gm_c_sort h rfl ⟨Nat.le_of_ble_eq_true rfl, Nat.le_of_ble_eq_true rfl⟩ (Nat.le_of_ble_eq_true rfl) dX7_shared_35 (gx_C.mono k ?_)
      rintro _ X35 ⟨rfl, k⟩
      refine ⟨rfl, ?_⟩
      refine gx_iconst (v := 0) h dX7_shared_38 (by decide) ?_
      refine gx_istore (L' := [(4, .int 0), (3, .int r18), (0, .ref (gm_am θ)), (1, .int x1), (2, .int x2)]) h (by decide) rfl dX7_shared_39 ?_
      refine gx_iconst (v := 0) h dX7_shared_41 (by decide) ?_
      refine gx_istore (L' := [(5, .int 0), (4, .int 0), (3, .int r18), (0, .ref (gm_am θ)), (1, .int x1), (2, .int x2)]) h (by decide) rfl dX7_shared_42 ?_
      exact gx_sub [3, 4, 5, 1, 0] rfl k
    · replace k := k.2 c
      refine gx_aload_n h 1 rfl dX7_shared_26 ?_
      refine gx_iload_n h 0 rfl dX7_shared_27 ?_
      refine gm_c_found0 h rfl ⟨Nat.le_of_ble_eq_true rfl, Nat.le_of_ble_eq_true rfl⟩ (Nat.le_of_ble_eq_true rfl) dX7_shared_28 (gx_C.mono k ?_)
      rintro _ X28 ⟨r28, rfl, k⟩
      refine ⟨r28, rfl, ?_⟩
      exact gx_iret h rfl dX7_shared_31 ⟨_, rfl, k⟩
  · replace k := k.2 c
    refine gx_aload_n h 1 rfl dX7_shared_10 ?_
    refine gx_iload_n h 0 rfl dX7_shared_11 ?_
    refine gm_c_found0 h rfl ⟨Nat.le_of_ble_eq_true rfl, Nat.le_of_ble_eq_true rfl⟩ (Nat.le_of_ble_eq_true rfl) dX7_shared_12 (gx_C.mono k ?_)
    rintro _ X12 ⟨r12, rfl, k⟩
    refine ⟨r12, rfl, ?_⟩
    exact gx_iret h rfl dX7_shared_15 ⟨_, rfl, k⟩
theorem bm_shared_44 {θ : gm_T} {K : gx_K} {P : Int32 → gm_X → Prop} {X : gm_X} {x1 x2 x4 x5 : Int32} (h : gm_K θ K mX7_shared) (k : vp_in x1 11 ∧ (((X.2 1 x1.toNatClampNeg) ≤ x5 → P x4 X) ∧ (¬ (X.2 1 x1.toNatClampNeg) ≤ x5 → gm_G θ K mX7_shared (gm_Pi P) 61 [(0, .ref (gm_am θ)), (1, .int x1), (2, .int x2), (4, .int x4), (5, .int x5), (6, .int 0), (7, .int 0)] [] X))) : gm_G θ K mX7_shared (gm_Pi P) 44 [(0, .ref (gm_am θ)), (1, .int x1), (2, .int x2), (4, .int x4), (5, .int x5)] [] X := by
  refine gx_iload h 4 rfl dX7_shared_44 ?_
  refine gx_aload_n h 0 rfl dX7_shared_46 ?_
  refine gm_get1 h rfl dX7_shared_47 ?_
  refine gx_iload_n h 1 rfl dX7_shared_50 ?_
  refine gm_ld1 h k.1 dX7_shared_51 ?_
  replace k := k.2
  refine gx_icmp_ge (tgt := 131) h (by decide) dX7_shared_52 (fun c => ?_) (fun c => ?_)
  · replace k := k.1 c
    refine gx_iload h 3 rfl dX7_shared_131 ?_
    exact gx_iret h rfl dX7_shared_133 ⟨_, rfl, k⟩
  · replace k := k.2 c
    refine gx_iconst (v := 0) h dX7_shared_55 (by decide) ?_
    refine gx_istore (L' := [(6, .int 0), (0, .ref (gm_am θ)), (1, .int x1), (2, .int x2), (4, .int x4), (5, .int x5)]) h (by decide) rfl dX7_shared_56 ?_
    refine gx_iconst (v := 0) h dX7_shared_58 (by decide) ?_
    refine gx_istore (L' := [(7, .int 0), (6, .int 0), (0, .ref (gm_am θ)), (1, .int x1), (2, .int x2), (4, .int x4), (5, .int x5)]) h (by decide) rfl dX7_shared_59 ?_
    exact gx_sub [2, 3, 4, 5, 6, 1, 0] rfl k
theorem bm_shared_61 {θ : gm_T} {K : gx_K} {P : Int32 → gm_X → Prop} {X : gm_X} {x1 x2 x4 x5 x6 x7 : Int32} (h : gm_K θ K mX7_shared) (k : vp_in x2 11 ∧ (((X.2 1 x2.toNatClampNeg) ≤ x7 → ((x6 = 0 → gm_G θ K mX7_shared (gm_Pi P) 44 [(0, .ref (gm_am θ)), (1, .int x1), (2, .int x2), (4, .int (x4 + 0)), (5, .int (x5 + 1))] [] X) ∧ (¬ x6 = 0 → gm_G θ K mX7_shared (gm_Pi P) 44 [(0, .ref (gm_am θ)), (1, .int x1), (2, .int x2), (4, .int (x4 + 1)), (5, .int (x5 + 1))] [] X))) ∧ (¬ (X.2 1 x2.toNatClampNeg) ≤ x7 → ((x6 = 0 → vp_in (30 + x7) 60 ∧ vp_in x5 60 ∧ (((X.2 28 (30 + x7).toNatClampNeg) = (X.2 28 x5.toNatClampNeg) → gm_G θ K mX7_shared (gm_Pi P) 97 [(0, .ref (gm_am θ)), (1, .int x1), (2, .int x2), (4, .int x4), (5, .int x5), (7, .int x7)] [] X) ∧ (¬ (X.2 28 (30 + x7).toNatClampNeg) = (X.2 28 x5.toNatClampNeg) → gm_G θ K mX7_shared (gm_Pi P) 61 [(0, .ref (gm_am θ)), (1, .int x1), (2, .int x2), (4, .int x4), (5, .int x5), (6, .int 0), (7, .int (x7 + 1))] [] X))) ∧ (¬ x6 = 0 → gm_G θ K mX7_shared (gm_Pi P) 97 [(0, .ref (gm_am θ)), (1, .int x1), (2, .int x2), (4, .int x4), (5, .int x5), (7, .int x7)] [] X))))) : gm_G θ K mX7_shared (gm_Pi P) 61 [(0, .ref (gm_am θ)), (1, .int x1), (2, .int x2), (4, .int x4), (5, .int x5), (6, .int x6), (7, .int x7)] [] X := by
  refine gx_iload h 6 rfl dX7_shared_61 ?_
  refine gx_aload_n h 0 rfl dX7_shared_63 ?_
  refine gm_get1 h rfl dX7_shared_64 ?_
  refine gx_iload_n h 2 rfl dX7_shared_67 ?_
  refine gm_ld1 h k.1 dX7_shared_68 ?_
  replace k := k.2
  refine gx_icmp_ge (tgt := 110) h (by decide) dX7_shared_69 (fun c => ?_) (fun c => ?_)
  · replace k := k.1 c
    refine gx_iload h 3 rfl dX7_shared_110 ?_
    refine gx_iload h 5 rfl dX7_shared_112 ?_
    refine gx_if_eq (tgt := 121) h (by decide) dX7_shared_114 (fun c => ?_) (fun c => ?_)
    · replace k := k.1 c
      refine gx_iconst (v := 0) h dX7_shared_121 (by decide) ?_
      refine gx_iadd h dX7_shared_122 ?_
      refine gx_istore (L' := [(4, .int (x4 + 0)), (0, .ref (gm_am θ)), (1, .int x1), (2, .int x2), (5, .int x5), (6, .int x6), (7, .int x7)]) h (by decide) rfl dX7_shared_123 ?_
      refine gx_iinc (v := x5 + 1) (L' := [(5, .int (x5 + 1)), (4, .int (x4 + 0)), (0, .ref (gm_am θ)), (1, .int x1), (2, .int x2), (6, .int x6), (7, .int x7)]) h 4 rfl rfl (by decide) rfl dX7_shared_125 ?_
      refine gx_goto (tgt := 44) h (by decide) dX7_shared_128 ?_
      exact gx_sub [2, 3, 4, 1, 0] rfl k
    · replace k := k.2 c
      refine gx_iconst (v := 1) h dX7_shared_117 (by decide) ?_
      refine gx_goto (tgt := 122) h (by decide) dX7_shared_118 ?_
      refine gx_iadd h dX7_shared_122 ?_
      refine gx_istore (L' := [(4, .int (x4 + 1)), (0, .ref (gm_am θ)), (1, .int x1), (2, .int x2), (5, .int x5), (6, .int x6), (7, .int x7)]) h (by decide) rfl dX7_shared_123 ?_
      refine gx_iinc (v := x5 + 1) (L' := [(5, .int (x5 + 1)), (4, .int (x4 + 1)), (0, .ref (gm_am θ)), (1, .int x1), (2, .int x2), (6, .int x6), (7, .int x7)]) h 4 rfl rfl (by decide) rfl dX7_shared_125 ?_
      refine gx_goto (tgt := 44) h (by decide) dX7_shared_128 ?_
      exact gx_sub [2, 3, 4, 1, 0] rfl k
  · replace k := k.2 c
    refine gx_iload h 5 rfl dX7_shared_72 ?_
    refine gx_if_ne (tgt := 97) h (by decide) dX7_shared_74 (fun c => ?_) (fun c => ?_)
    · replace k := k.2 c
      exact gx_sub [0, 1, 2, 3, 4, 6] rfl k
    · replace k := k.1 c
      refine gx_aload_n h 0 rfl dX7_shared_77 ?_
      refine gm_get28 h rfl dX7_shared_78 ?_
      refine gx_bipush (v := 30) h dX7_shared_81 (by decide) ?_
      refine gx_iload h 6 rfl dX7_shared_83 ?_
      refine gx_iadd h dX7_shared_85 ?_
      refine gm_ld28 h k.1 dX7_shared_86 ?_
      replace k := k.2
      refine gx_aload_n h 0 rfl dX7_shared_87 ?_
      refine gm_get28 h rfl dX7_shared_88 ?_
      refine gx_iload h 4 rfl dX7_shared_91 ?_
      refine gm_ld28 h k.1 dX7_shared_93 ?_
      replace k := k.2
      refine gx_icmp_ne (tgt := 101) h (by decide) dX7_shared_94 (fun c => ?_) (fun c => ?_)
      · replace k := k.2 c
        refine gx_iconst (v := 0) h dX7_shared_101 (by decide) ?_
        refine gx_istore (L' := [(6, .int 0), (0, .ref (gm_am θ)), (1, .int x1), (2, .int x2), (4, .int x4), (5, .int x5), (7, .int x7)]) h (by decide) rfl dX7_shared_102 ?_
        refine gx_iinc (v := x7 + 1) (L' := [(7, .int (x7 + 1)), (6, .int 0), (0, .ref (gm_am θ)), (1, .int x1), (2, .int x2), (4, .int x4), (5, .int x5)]) h 6 rfl rfl (by decide) rfl dX7_shared_104 ?_
        refine gx_goto (tgt := 61) h (by decide) dX7_shared_107 ?_
        exact gx_sub [2, 3, 4, 5, 6, 1, 0] rfl k
      · replace k := k.1 c
        exact gx_sub [0, 1, 2, 3, 4, 6] rfl k
theorem bm_shared_97 {θ : gm_T} {K : gx_K} {P : Int32 → gm_X → Prop} {X : gm_X} {x1 x2 x4 x5 x7 : Int32} (h : gm_K θ K mX7_shared) (k : gm_G θ K mX7_shared (gm_Pi P) 61 [(0, .ref (gm_am θ)), (1, .int x1), (2, .int x2), (4, .int x4), (5, .int x5), (6, .int 1), (7, .int (x7 + 1))] [] X) : gm_G θ K mX7_shared (gm_Pi P) 97 [(0, .ref (gm_am θ)), (1, .int x1), (2, .int x2), (4, .int x4), (5, .int x5), (7, .int x7)] [] X := by
  refine gx_iconst (v := 1) h dX7_shared_97 (by decide) ?_
  refine gx_goto (tgt := 102) h (by decide) dX7_shared_98 ?_
  refine gx_istore (L' := [(6, .int 1), (0, .ref (gm_am θ)), (1, .int x1), (2, .int x2), (4, .int x4), (5, .int x5), (7, .int x7)]) h (by decide) rfl dX7_shared_102 ?_
  refine gx_iinc (v := x7 + 1) (L' := [(7, .int (x7 + 1)), (6, .int 1), (0, .ref (gm_am θ)), (1, .int x1), (2, .int x2), (4, .int x4), (5, .int x5)]) h 6 rfl rfl (by decide) rfl dX7_shared_104 ?_
  refine gx_goto (tgt := 61) h (by decide) dX7_shared_107 ?_
  exact gx_sub [2, 3, 4, 5, 6, 1, 0] rfl k
/-! merge -/
theorem em_merge {θ : gm_T} {P : Int32 → gm_X → Prop} {X : gm_X} {x1 : Int32} {x2 : Int32} {x3 : Int32} {x4 : Int32} (body : ∀ K, gm_K θ K mX7_merge → gm_G θ K mX7_merge (gm_Pi P) 0 [(0, .ref (gm_am θ)), (1, .int x1), (2, .int x2), (3, .int x3), (4, .int x4)] [] X) : gx_C (gm_O θ) mX7_merge [.ref (gm_am θ), .int x1, .int x2, .int x3, .int x4] X (gm_Pi P) :=
  gx_C.intro (gm_z θ) (by decide) (Nat.le_of_ble_eq_true rfl) body
theorem bm_merge_0 {θ : gm_T} {K : gx_K} {P : Int32 → gm_X → Prop} {X : gm_X} {x1 x2 x3 x4 : Int32} (h : gm_K θ K mX7_merge) (k : gx_C (gm_O θ) mX7_lacks [.ref (gm_am θ), .int x1] X (gm_Pi (fun r2 X2 => ((r2 = 0 → gx_C (gm_O θ) mX7_lacks [.ref (gm_am θ), .int x2] X2 (gm_Pi (fun r14 X14 => gm_G θ K mX7_merge (gm_Pi P) 19 [(0, .ref (gm_am θ)), (1, .int x1), (2, .int x2), (3, .int x3), (4, .int x4), (5, .int r14)] [] X14))) ∧ (¬ r2 = 0 → gm_G θ K mX7_merge (gm_Pi P) 19 [(0, .ref (gm_am θ)), (1, .int x1), (2, .int x2), (3, .int x3), (4, .int x4), (5, .int r2)] [] X2))))) : gm_G θ K mX7_merge (gm_Pi P) 0 [(0, .ref (gm_am θ)), (1, .int x1), (2, .int x2), (3, .int x3), (4, .int x4)] [] X := by
  refine gx_aload_n h 0 rfl dX7_merge_0 ?_
  refine gx_iload_n h 1 rfl dX7_merge_1 ?_
  refine gm_c_lacks h rfl ⟨Nat.le_of_ble_eq_true rfl, Nat.le_of_ble_eq_true rfl⟩ (Nat.le_of_ble_eq_true rfl) dX7_merge_2 (gx_C.mono k ?_)
  rintro _ X2 ⟨r2, rfl, k⟩
  refine ⟨r2, rfl, ?_⟩
  refine gx_istore (L' := [(5, .int r2), (0, .ref (gm_am θ)), (1, .int x1), (2, .int x2), (3, .int x3), (4, .int x4)]) h (by decide) rfl dX7_merge_5 ?_
  refine gx_iload h 0 rfl dX7_merge_7 ?_
  refine gx_if_ne (tgt := 19) h (by decide) dX7_merge_9 (fun c => ?_) (fun c => ?_)
  · replace k := k.2 c
    exact gx_sub [1, 2, 3, 4, 5, 0] rfl k
  · replace k := k.1 c
    refine gx_aload_n h 1 rfl dX7_merge_12 ?_
    refine gx_iload_n h 3 rfl dX7_merge_13 ?_
    refine gm_c_lacks h rfl ⟨Nat.le_of_ble_eq_true rfl, Nat.le_of_ble_eq_true rfl⟩ (Nat.le_of_ble_eq_true rfl) dX7_merge_14 (gx_C.mono k ?_)
    rintro _ X14 ⟨r14, rfl, k⟩
    refine ⟨r14, rfl, ?_⟩
    refine gx_istore (L' := [(5, .int r14), (0, .ref (gm_am θ)), (1, .int x1), (2, .int x2), (3, .int x3), (4, .int x4)]) h (by decide) rfl dX7_merge_17 ?_
    exact gx_sub [1, 2, 3, 4, 5, 0] rfl k
theorem bm_merge_19 {θ : gm_T} {K : gx_K} {P : Int32 → gm_X → Prop} {X : gm_X} {x1 x2 x3 x4 x5 : Int32} (h : gm_K θ K mX7_merge) (k : ((x5 = 0 → gx_C (gm_O θ) mX7_lacks [.ref (gm_am θ), .int x3] X (gm_Pi (fun r26 X26 => gm_G θ K mX7_merge (gm_Pi P) 31 [(0, .ref (gm_am θ)), (1, .int x1), (2, .int x2), (3, .int x3), (4, .int x4), (5, .int r26)] [] X26))) ∧ (¬ x5 = 0 → gm_G θ K mX7_merge (gm_Pi P) 31 [(0, .ref (gm_am θ)), (1, .int x1), (2, .int x2), (3, .int x3), (4, .int x4), (5, .int x5)] [] X))) : gm_G θ K mX7_merge (gm_Pi P) 19 [(0, .ref (gm_am θ)), (1, .int x1), (2, .int x2), (3, .int x3), (4, .int x4), (5, .int x5)] [] X := by
  refine gx_iload h 5 rfl dX7_merge_19 ?_
  refine gx_if_ne (tgt := 31) h (by decide) dX7_merge_21 (fun c => ?_) (fun c => ?_)
  · replace k := k.2 c
    exact k
  · replace k := k.1 c
    refine gx_aload_n h 0 rfl dX7_merge_24 ?_
    refine gx_iload_n h 3 rfl dX7_merge_25 ?_
    refine gm_c_lacks h rfl ⟨Nat.le_of_ble_eq_true rfl, Nat.le_of_ble_eq_true rfl⟩ (Nat.le_of_ble_eq_true rfl) dX7_merge_26 (gx_C.mono k ?_)
    rintro _ X26 ⟨r26, rfl, k⟩
    refine ⟨r26, rfl, ?_⟩
    refine gx_istore (L' := [(5, .int r26), (0, .ref (gm_am θ)), (1, .int x1), (2, .int x2), (3, .int x3), (4, .int x4)]) h (by decide) rfl dX7_merge_29 ?_
    exact gx_sub [1, 2, 3, 4, 5, 0] rfl k
theorem bm_merge_31 {θ : gm_T} {K : gx_K} {P : Int32 → gm_X → Prop} {X : gm_X} {x1 x2 x3 x4 x5 : Int32} (h : gm_K θ K mX7_merge) (k : ((0 ≤ x5 → gx_C (gm_O θ) mX7_isPlace [.int x4] X (gm_Pi (fun r45 X45 => ((r45 = 0 → gx_C (gm_O θ) mX7_found0 [.ref (gm_am θ), .int (-1)] X45 (gm_Pi (fun r53 X53 => P r53 X53))) ∧ (¬ r45 = 0 → ∀ X59, X59 = gm_pI X45 31 0 → ∀ X64, X64 = gm_pI X59 32 0 → gx_C (gm_O θ) mX7_of [.ref (gm_am θ), .int x1, .int 0, .int 0] X64 (gm_Pi (fun r71 X71 => gx_C (gm_O θ) mX7_of [.ref (gm_am θ), .int x2, .int 0, .int 0] X71 (gm_Pi (fun r80 X80 => ((r80 = r71 → gx_C (gm_O θ) mX7_of [.ref (gm_am θ), .int x3, .int 0, .int 0] X80 (gm_Pi (fun r92 X92 => ((r92 = r71 → gx_C (gm_O θ) mX7_merges [.ref (gm_am θ), .int x1, .int x2, .int x3] X92 (gm_Pi (fun r115 X115 => ((r115 = 0 → gx_C (gm_O θ) mX7_clashed [.ref (gm_am θ), .int (-1), .int 5] X115 (gm_Pv (fun X128 => gm_G θ K mX7_merge (gm_Pi P) 131 [(0, .ref (gm_am θ)), (1, .int x1), (2, .int x2), (3, .int x3), (4, .int x4), (7, .int r115)] [] X128))) ∧ (¬ r115 = 0 → gm_G θ K mX7_merge (gm_Pi P) 131 [(0, .ref (gm_am θ)), (1, .int x1), (2, .int x2), (3, .int x3), (4, .int x4), (7, .int r115)] [] X115))))) ∧ (¬ r92 = r71 → gm_G θ K mX7_merge (gm_Pi P) 100 [(0, .ref (gm_am θ))] [] X92))))) ∧ (¬ r80 = r71 → gm_G θ K mX7_merge (gm_Pi P) 100 [(0, .ref (gm_am θ))] [] X80))))))))))) ∧ (¬ 0 ≤ x5 → gx_C (gm_O θ) mX7_found0 [.ref (gm_am θ), .int x5] X (gm_Pi (fun r39 X39 => P r39 X39))))) : gm_G θ K mX7_merge (gm_Pi P) 31 [(0, .ref (gm_am θ)), (1, .int x1), (2, .int x2), (3, .int x3), (4, .int x4), (5, .int x5)] [] X := by
  refine gx_iload h 5 rfl dX7_merge_31 ?_
  refine gx_if_ge (tgt := 43) h (by decide) dX7_merge_33 (fun c => ?_) (fun c => ?_)
  · replace k := k.1 c
    refine gx_iload h 4 rfl dX7_merge_43 ?_
    refine gm_c_isPlace h rfl ⟨Nat.le_of_ble_eq_true rfl, Nat.le_of_ble_eq_true rfl⟩ (Nat.le_of_ble_eq_true rfl) dX7_merge_45 (gx_C.mono k ?_)
    rintro _ X45 ⟨r45, rfl, k⟩
    refine ⟨r45, rfl, ?_⟩
    refine gx_if_ne (tgt := 57) h (by decide) dX7_merge_48 (fun c => ?_) (fun c => ?_)
    · replace k := k.2 c
      refine gx_aload_n h 0 rfl dX7_merge_57 ?_
      refine gx_iconst (v := 0) h dX7_merge_58 (by decide) ?_
      refine gm_put31 h rfl dX7_merge_59 ?_
      generalize hz : gm_pI X45 31 0 = X59
      replace k := k X59 hz.symm
      refine gx_aload_n h 0 rfl dX7_merge_62 ?_
      refine gx_iconst (v := 0) h dX7_merge_63 (by decide) ?_
      refine gm_put32 h rfl dX7_merge_64 ?_
      generalize hz : gm_pI X59 32 0 = X64
      replace k := k X64 hz.symm
      refine gx_aload_n h 0 rfl dX7_merge_67 ?_
      refine gx_iload_n h 1 rfl dX7_merge_68 ?_
      refine gx_iconst (v := 0) h dX7_merge_69 (by decide) ?_
      refine gx_iconst (v := 0) h dX7_merge_70 (by decide) ?_
      refine gm_c_of h rfl ⟨Nat.le_of_ble_eq_true rfl, Nat.le_of_ble_eq_true rfl⟩ (Nat.le_of_ble_eq_true rfl) dX7_merge_71 (gx_C.mono k ?_)
      rintro _ X71 ⟨r71, rfl, k⟩
      refine ⟨r71, rfl, ?_⟩
      refine gx_istore (L' := [(6, .int r71), (0, .ref (gm_am θ)), (1, .int x1), (2, .int x2), (3, .int x3), (4, .int x4), (5, .int x5)]) h (by decide) rfl dX7_merge_74 ?_
      refine gx_aload_n h 1 rfl dX7_merge_76 ?_
      refine gx_iload_n h 3 rfl dX7_merge_77 ?_
      refine gx_iconst (v := 0) h dX7_merge_78 (by decide) ?_
      refine gx_iconst (v := 0) h dX7_merge_79 (by decide) ?_
      refine gm_c_of h rfl ⟨Nat.le_of_ble_eq_true rfl, Nat.le_of_ble_eq_true rfl⟩ (Nat.le_of_ble_eq_true rfl) dX7_merge_80 (gx_C.mono k ?_)
      rintro _ X80 ⟨r80, rfl, k⟩
      refine ⟨r80, rfl, ?_⟩
      refine gx_iload h 0 rfl dX7_merge_83 ?_
      refine gx_icmp_ne (tgt := 100) h (by decide) dX7_merge_85 (fun c => ?_) (fun c => ?_)
      · replace k := k.2 c
        exact gx_sub [1] rfl k
      · replace k := k.1 c
        refine gx_aload_n h 1 rfl dX7_merge_88 ?_
        refine gx_iload_n h 4 rfl dX7_merge_89 ?_
        refine gx_iconst (v := 0) h dX7_merge_90 (by decide) ?_
        refine gx_iconst (v := 0) h dX7_merge_91 (by decide) ?_
        refine gm_c_of h rfl ⟨Nat.le_of_ble_eq_true rfl, Nat.le_of_ble_eq_true rfl⟩ (Nat.le_of_ble_eq_true rfl) dX7_merge_92 (gx_C.mono k ?_)
        rintro _ X92 ⟨r92, rfl, k⟩
        refine ⟨r92, rfl, ?_⟩
        refine gx_iload h 0 rfl dX7_merge_95 ?_
        refine gx_icmp_eq (tgt := 111) h (by decide) dX7_merge_97 (fun c => ?_) (fun c => ?_)
        · replace k := k.1 c
          refine gx_aload_n h 1 rfl dX7_merge_111 ?_
          refine gx_iload_n h 2 rfl dX7_merge_112 ?_
          refine gx_iload_n h 3 rfl dX7_merge_113 ?_
          refine gx_iload_n h 4 rfl dX7_merge_114 ?_
          refine gm_c_merges h rfl ⟨Nat.le_of_ble_eq_true rfl, Nat.le_of_ble_eq_true rfl⟩ (Nat.le_of_ble_eq_true rfl) dX7_merge_115 (gx_C.mono k ?_)
          rintro _ X115 ⟨r115, rfl, k⟩
          refine ⟨r115, rfl, ?_⟩
          refine gx_istore (L' := [(7, .int r115), (6, .int r71), (0, .ref (gm_am θ)), (1, .int x1), (2, .int x2), (3, .int x3), (4, .int x4), (5, .int x5)]) h (by decide) rfl dX7_merge_118 ?_
          refine gx_iload h 0 rfl dX7_merge_120 ?_
          refine gx_if_ne (tgt := 131) h (by decide) dX7_merge_122 (fun c => ?_) (fun c => ?_)
          · replace k := k.2 c
            exact gx_sub [2, 3, 4, 5, 6, 0] rfl k
          · replace k := k.1 c
            refine gx_aload_n h 2 rfl dX7_merge_125 ?_
            refine gx_iconst (v := (-1)) h dX7_merge_126 (by decide) ?_
            refine gx_iconst (v := 5) h dX7_merge_127 (by decide) ?_
            refine gm_c_clashed h rfl ⟨Nat.le_of_ble_eq_true rfl, Nat.le_of_ble_eq_true rfl⟩ (Nat.le_of_ble_eq_true rfl) dX7_merge_128 (gx_C.mono k ?_)
            rintro _ X128 ⟨rfl, k⟩
            refine ⟨rfl, ?_⟩
            exact gx_sub [2, 3, 4, 5, 6, 0] rfl k
        · replace k := k.2 c
          exact gx_sub [1] rfl k
    · replace k := k.1 c
      refine gx_aload_n h 0 rfl dX7_merge_51 ?_
      refine gx_iconst (v := (-1)) h dX7_merge_52 (by decide) ?_
      refine gm_c_found0 h rfl ⟨Nat.le_of_ble_eq_true rfl, Nat.le_of_ble_eq_true rfl⟩ (Nat.le_of_ble_eq_true rfl) dX7_merge_53 (gx_C.mono k ?_)
      rintro _ X53 ⟨r53, rfl, k⟩
      refine ⟨r53, rfl, ?_⟩
      exact gx_iret h rfl dX7_merge_56 ⟨_, rfl, k⟩
  · replace k := k.2 c
    refine gx_aload_n h 0 rfl dX7_merge_36 ?_
    refine gx_iload h 5 rfl dX7_merge_37 ?_
    refine gm_c_found0 h rfl ⟨Nat.le_of_ble_eq_true rfl, Nat.le_of_ble_eq_true rfl⟩ (Nat.le_of_ble_eq_true rfl) dX7_merge_39 (gx_C.mono k ?_)
    rintro _ X39 ⟨r39, rfl, k⟩
    refine ⟨r39, rfl, ?_⟩
    exact gx_iret h rfl dX7_merge_42 ⟨_, rfl, k⟩
theorem bm_merge_100 {θ : gm_T} {K : gx_K} {P : Int32 → gm_X → Prop} {X : gm_X} (h : gm_K θ K mX7_merge) (k : gx_C (gm_O θ) mX7_clashed [.ref (gm_am θ), .int (-1), .int 4] X (gm_Pv (fun X103 => P (X103.1 31) X103))) : gm_G θ K mX7_merge (gm_Pi P) 100 [(0, .ref (gm_am θ))] [] X := by
  refine gx_aload_n h 0 rfl dX7_merge_100 ?_
  refine gx_iconst (v := (-1)) h dX7_merge_101 (by decide) ?_
  refine gx_iconst (v := 4) h dX7_merge_102 (by decide) ?_
  refine gm_c_clashed h rfl ⟨Nat.le_of_ble_eq_true rfl, Nat.le_of_ble_eq_true rfl⟩ (Nat.le_of_ble_eq_true rfl) dX7_merge_103 (gx_C.mono k ?_)
  rintro _ X103 ⟨rfl, k⟩
  refine ⟨rfl, ?_⟩
  refine gx_aload_n h 0 rfl dX7_merge_106 ?_
  refine gm_get31 h rfl dX7_merge_107 ?_
  exact gx_iret h rfl dX7_merge_110 ⟨_, rfl, k⟩
theorem bm_merge_131 {θ : gm_T} {K : gx_K} {P : Int32 → gm_X → Prop} {X : gm_X} {x1 x2 x3 x4 x7 : Int32} (h : gm_K θ K mX7_merge) (k : gx_C (gm_O θ) mX7_least [.ref (gm_am θ), .int x2, .int x3, .int (-1)] X (gm_Pi (fun r135 X135 => gm_G θ K mX7_merge (gm_Pi P) 140 [(0, .ref (gm_am θ)), (1, .int x1), (2, .int x2), (3, .int x3), (4, .int x4), (7, .int x7), (8, .int r135)] [] X135))) : gm_G θ K mX7_merge (gm_Pi P) 131 [(0, .ref (gm_am θ)), (1, .int x1), (2, .int x2), (3, .int x3), (4, .int x4), (7, .int x7)] [] X := by
  refine gx_aload_n h 0 rfl dX7_merge_131 ?_
  refine gx_iload_n h 2 rfl dX7_merge_132 ?_
  refine gx_iload_n h 3 rfl dX7_merge_133 ?_
  refine gx_iconst (v := (-1)) h dX7_merge_134 (by decide) ?_
  refine gm_c_least h rfl ⟨Nat.le_of_ble_eq_true rfl, Nat.le_of_ble_eq_true rfl⟩ (Nat.le_of_ble_eq_true rfl) dX7_merge_135 (gx_C.mono k ?_)
  rintro _ X135 ⟨r135, rfl, k⟩
  refine ⟨r135, rfl, ?_⟩
  refine gx_istore (L' := [(8, .int r135), (0, .ref (gm_am θ)), (1, .int x1), (2, .int x2), (3, .int x3), (4, .int x4), (7, .int x7)]) h (by decide) rfl dX7_merge_138 ?_
  exact gx_sub [1, 2, 3, 4, 5, 6, 0] rfl k
theorem bm_merge_140 {θ : gm_T} {K : gx_K} {P : Int32 → gm_X → Prop} {X : gm_X} {x1 x2 x3 x4 x7 x8 : Int32} (h : gm_K θ K mX7_merge) (k : ((x8 < 0 → ((x7 = 0 → gm_G θ K mX7_merge (gm_Pi P) 225 [(0, .ref (gm_am θ))] [] X) ∧ (¬ x7 = 0 → vp_in 9 11 ∧ ∀ X214, X214 = gm_pI X 32 (X.2 1 (9 : Int32).toNatClampNeg) → gx_C (gm_O θ) mX7_copyAll [.ref (gm_am θ), .int 9, .int x4] X214 (gm_Pv (fun X222 => gm_G θ K mX7_merge (gm_Pi P) 225 [(0, .ref (gm_am θ))] [] X222))))) ∧ (¬ x8 < 0 → gm_G θ K mX7_merge (gm_Pi P) 148 [(0, .ref (gm_am θ)), (1, .int x1), (2, .int x2), (3, .int x3), (4, .int x4), (7, .int x7), (8, .int x8), (9, .int 0)] [] X))) : gm_G θ K mX7_merge (gm_Pi P) 140 [(0, .ref (gm_am θ)), (1, .int x1), (2, .int x2), (3, .int x3), (4, .int x4), (7, .int x7), (8, .int x8)] [] X := by
  refine gx_iload h 6 rfl dX7_merge_140 ?_
  refine gx_if_lt (tgt := 201) h (by decide) dX7_merge_142 (fun c => ?_) (fun c => ?_)
  · replace k := k.1 c
    refine gx_iload h 5 rfl dX7_merge_201 ?_
    refine gx_if_eq (tgt := 225) h (by decide) dX7_merge_203 (fun c => ?_) (fun c => ?_)
    · replace k := k.1 c
      exact gx_sub [0] rfl k
    · replace k := k.2 c
      refine gx_aload_n h 0 rfl dX7_merge_206 ?_
      refine gx_aload_n h 0 rfl dX7_merge_207 ?_
      refine gm_get1 h rfl dX7_merge_208 ?_
      refine gx_bipush (v := 9) h dX7_merge_211 (by decide) ?_
      refine gm_ld1 h k.1 dX7_merge_213 ?_
      replace k := k.2
      refine gm_put32 h rfl dX7_merge_214 ?_
      generalize hz : gm_pI X 32 (X.2 1 (9 : Int32).toNatClampNeg) = X214
      replace k := k X214 hz.symm
      refine gx_aload_n h 0 rfl dX7_merge_217 ?_
      refine gx_bipush (v := 9) h dX7_merge_218 (by decide) ?_
      refine gx_iload h 4 rfl dX7_merge_220 ?_
      refine gm_c_copyAll h rfl ⟨Nat.le_of_ble_eq_true rfl, Nat.le_of_ble_eq_true rfl⟩ (Nat.le_of_ble_eq_true rfl) dX7_merge_222 (gx_C.mono k ?_)
      rintro _ X222 ⟨rfl, k⟩
      refine ⟨rfl, ?_⟩
      exact gx_sub [0] rfl k
  · replace k := k.2 c
    refine gx_iconst (v := 0) h dX7_merge_145 (by decide) ?_
    refine gx_istore (L' := [(9, .int 0), (0, .ref (gm_am θ)), (1, .int x1), (2, .int x2), (3, .int x3), (4, .int x4), (7, .int x7), (8, .int x8)]) h (by decide) rfl dX7_merge_146 ?_
    exact gx_sub [1, 2, 3, 4, 5, 6, 7, 0] rfl k
theorem bm_merge_148 {θ : gm_T} {K : gx_K} {P : Int32 → gm_X → Prop} {X : gm_X} {x1 x2 x3 x4 x7 x8 x9 : Int32} (h : gm_K θ K mX7_merge) (k : ((4 ≤ x9 → gx_C (gm_O θ) mX7_least [.ref (gm_am θ), .int x2, .int x3, .int x8] X (gm_Pi (fun r193 X193 => gm_G θ K mX7_merge (gm_Pi P) 140 [(0, .ref (gm_am θ)), (1, .int x1), (2, .int x2), (3, .int x3), (4, .int x4), (7, .int x7), (8, .int r193)] [] X193))) ∧ (¬ 4 ≤ x9 → gx_C (gm_O θ) mX7_whose [.ref (gm_am θ), .int x1, .int x2, .int x3, .int x8, .int x9] X (gm_Pi (fun r162 X162 => (((X162.1 33) = 0 → gm_G θ K mX7_merge (gm_Pi P) 182 [(0, .ref (gm_am θ)), (1, .int x1), (2, .int x2), (3, .int x3), (4, .int x4), (7, .int x7), (8, .int x8), (9, .int x9)] [] X162) ∧ (¬ (X162.1 33) = 0 → gx_C (gm_O θ) mX7_clashed [.ref (gm_am θ), .int x8, .int x9] X162 (gm_Pv (fun X179 => gm_G θ K mX7_merge (gm_Pi P) 182 [(0, .ref (gm_am θ)), (1, .int x1), (2, .int x2), (3, .int x3), (4, .int x4), (7, .int x7), (8, .int x8), (9, .int x9)] [] X179))))))))) : gm_G θ K mX7_merge (gm_Pi P) 148 [(0, .ref (gm_am θ)), (1, .int x1), (2, .int x2), (3, .int x3), (4, .int x4), (7, .int x7), (8, .int x8), (9, .int x9)] [] X := by
  refine gx_iload h 7 rfl dX7_merge_148 ?_
  refine gx_iconst (v := 4) h dX7_merge_150 (by decide) ?_
  refine gx_icmp_ge (tgt := 188) h (by decide) dX7_merge_151 (fun c => ?_) (fun c => ?_)
  · replace k := k.1 c
    refine gx_aload_n h 0 rfl dX7_merge_188 ?_
    refine gx_iload_n h 2 rfl dX7_merge_189 ?_
    refine gx_iload_n h 3 rfl dX7_merge_190 ?_
    refine gx_iload h 6 rfl dX7_merge_191 ?_
    refine gm_c_least h rfl ⟨Nat.le_of_ble_eq_true rfl, Nat.le_of_ble_eq_true rfl⟩ (Nat.le_of_ble_eq_true rfl) dX7_merge_193 (gx_C.mono k ?_)
    rintro _ X193 ⟨r193, rfl, k⟩
    refine ⟨r193, rfl, ?_⟩
    refine gx_istore (L' := [(8, .int r193), (0, .ref (gm_am θ)), (1, .int x1), (2, .int x2), (3, .int x3), (4, .int x4), (7, .int x7), (9, .int x9)]) h (by decide) rfl dX7_merge_196 ?_
    refine gx_goto (tgt := 140) h (by decide) dX7_merge_198 ?_
    exact gx_sub [1, 2, 3, 4, 5, 6, 0] rfl k
  · replace k := k.2 c
    refine gx_aload_n h 0 rfl dX7_merge_154 ?_
    refine gx_iload_n h 1 rfl dX7_merge_155 ?_
    refine gx_iload_n h 2 rfl dX7_merge_156 ?_
    refine gx_iload_n h 3 rfl dX7_merge_157 ?_
    refine gx_iload h 6 rfl dX7_merge_158 ?_
    refine gx_iload h 7 rfl dX7_merge_160 ?_
    refine gm_c_whose h rfl ⟨Nat.le_of_ble_eq_true rfl, Nat.le_of_ble_eq_true rfl⟩ (Nat.le_of_ble_eq_true rfl) dX7_merge_162 (gx_C.mono k ?_)
    rintro _ X162 ⟨r162, rfl, k⟩
    refine ⟨r162, rfl, ?_⟩
    refine gx_istore (L' := [(10, .int r162), (0, .ref (gm_am θ)), (1, .int x1), (2, .int x2), (3, .int x3), (4, .int x4), (7, .int x7), (8, .int x8), (9, .int x9)]) h (by decide) rfl dX7_merge_165 ?_
    refine gx_aload_n h 1 rfl dX7_merge_167 ?_
    refine gm_get33 h rfl dX7_merge_168 ?_
    refine gx_if_eq (tgt := 182) h (by decide) dX7_merge_171 (fun c => ?_) (fun c => ?_)
    · replace k := k.1 c
      exact gx_sub [1, 2, 3, 4, 5, 6, 7, 8] rfl k
    · replace k := k.2 c
      refine gx_aload_n h 1 rfl dX7_merge_174 ?_
      refine gx_iload h 7 rfl dX7_merge_175 ?_
      refine gx_iload h 8 rfl dX7_merge_177 ?_
      refine gm_c_clashed h rfl ⟨Nat.le_of_ble_eq_true rfl, Nat.le_of_ble_eq_true rfl⟩ (Nat.le_of_ble_eq_true rfl) dX7_merge_179 (gx_C.mono k ?_)
      rintro _ X179 ⟨rfl, k⟩
      refine ⟨rfl, ?_⟩
      exact gx_sub [1, 2, 3, 4, 5, 6, 7, 8] rfl k
theorem bm_merge_182 {θ : gm_T} {K : gx_K} {P : Int32 → gm_X → Prop} {X : gm_X} {x1 x2 x3 x4 x7 x8 x9 : Int32} (h : gm_K θ K mX7_merge) (k : gm_G θ K mX7_merge (gm_Pi P) 148 [(0, .ref (gm_am θ)), (1, .int x1), (2, .int x2), (3, .int x3), (4, .int x4), (7, .int x7), (8, .int x8), (9, .int (x9 + 1))] [] X) : gm_G θ K mX7_merge (gm_Pi P) 182 [(0, .ref (gm_am θ)), (1, .int x1), (2, .int x2), (3, .int x3), (4, .int x4), (7, .int x7), (8, .int x8), (9, .int x9)] [] X := by
  refine gx_iinc (v := x9 + 1) (L' := [(9, .int (x9 + 1)), (0, .ref (gm_am θ)), (1, .int x1), (2, .int x2), (3, .int x3), (4, .int x4), (7, .int x7), (8, .int x8)]) h 7 rfl rfl (by decide) rfl dX7_merge_182 ?_
  refine gx_goto (tgt := 148) h (by decide) dX7_merge_185 ?_
  exact gx_sub [1, 2, 3, 4, 5, 6, 7, 0] rfl k
theorem bm_merge_225 {θ : gm_T} {K : gx_K} {P : Int32 → gm_X → Prop} {X : gm_X} (h : gm_K θ K mX7_merge) (k : P (X.1 31) X) : gm_G θ K mX7_merge (gm_Pi P) 225 [(0, .ref (gm_am θ))] [] X := by
  refine gx_aload_n h 0 rfl dX7_merge_225 ?_
  refine gm_get31 h rfl dX7_merge_226 ?_
  exact gx_iret h rfl dX7_merge_229 ⟨_, rfl, k⟩
/-! clashed -/
theorem em_clashed {θ : gm_T} {P : gm_X → Prop} {X : gm_X} {x1 : Int32} {x2 : Int32} (body : ∀ K, gm_K θ K mX7_clashed → gm_G θ K mX7_clashed (gm_Pv P) 0 [(0, .ref (gm_am θ)), (1, .int x1), (2, .int x2)] [] X) : gx_C (gm_O θ) mX7_clashed [.ref (gm_am θ), .int x1, .int x2] X (gm_Pv P) :=
  gx_C.intro (gm_z θ) (by decide) (Nat.le_of_ble_eq_true rfl) body
theorem bm_clashed_0 {θ : gm_T} {K : gx_K} {P : gm_X → Prop} {X : gm_X} {x1 x2 : Int32} (h : gm_K θ K mX7_clashed) (k : vp_in (X.1 31) 130 ∧ ∀ X9, X9 = gm_pA X 29 (X.1 31).toNatClampNeg x1 → vp_in (X9.1 31) 130 ∧ ∀ X19, X19 = gm_pA X9 30 (X9.1 31).toNatClampNeg x2 → ∀ X27, X27 = gm_pI X19 31 ((X19.1 31) + 1) → P X27) : gm_G θ K mX7_clashed (gm_Pv P) 0 [(0, .ref (gm_am θ)), (1, .int x1), (2, .int x2)] [] X := by
  refine gx_aload_n h 0 rfl dX7_clashed_0 ?_
  refine gm_get29 h rfl dX7_clashed_1 ?_
  refine gx_aload_n h 0 rfl dX7_clashed_4 ?_
  refine gm_get31 h rfl dX7_clashed_5 ?_
  refine gx_iload_n h 1 rfl dX7_clashed_8 ?_
  refine gm_st29 h k.1 dX7_clashed_9 ?_
  generalize hz : gm_pA X 29 (X.1 31).toNatClampNeg x1 = X9
  replace k := k.2 X9 hz.symm
  refine gx_aload_n h 0 rfl dX7_clashed_10 ?_
  refine gm_get30 h rfl dX7_clashed_11 ?_
  refine gx_aload_n h 0 rfl dX7_clashed_14 ?_
  refine gm_get31 h rfl dX7_clashed_15 ?_
  refine gx_iload_n h 2 rfl dX7_clashed_18 ?_
  refine gm_st30 h k.1 dX7_clashed_19 ?_
  generalize hz : gm_pA X9 30 (X9.1 31).toNatClampNeg x2 = X19
  replace k := k.2 X19 hz.symm
  refine gx_aload_n h 0 rfl dX7_clashed_20 ?_
  refine gx_dup h rfl dX7_clashed_21 ?_
  refine gm_get31 h rfl dX7_clashed_22 ?_
  refine gx_iconst (v := 1) h dX7_clashed_25 (by decide) ?_
  refine gx_iadd h dX7_clashed_26 ?_
  refine gm_put31 h rfl dX7_clashed_27 ?_
  generalize hz : gm_pI X19 31 ((X19.1 31) + 1) = X27
  replace k := k X27 hz.symm
  exact gx_vret h rfl dX7_clashed_30 ⟨rfl, k⟩
/-! merges -/
theorem em_merges {θ : gm_T} {P : Int32 → gm_X → Prop} {X : gm_X} {x1 : Int32} {x2 : Int32} {x3 : Int32} (body : ∀ K, gm_K θ K mX7_merges → gm_G θ K mX7_merges (gm_Pi P) 0 [(0, .ref (gm_am θ)), (1, .int x1), (2, .int x2), (3, .int x3)] [] X) : gx_C (gm_O θ) mX7_merges [.ref (gm_am θ), .int x1, .int x2, .int x3] X (gm_Pi P) :=
  gx_C.intro (gm_z θ) (by decide) (Nat.le_of_ble_eq_true rfl) body
theorem bm_merges_0 {θ : gm_T} {K : gx_K} {P : Int32 → gm_X → Prop} {X : gm_X} {x1 x2 x3 : Int32} (h : gm_K θ K mX7_merges) (k : vp_in 9 11 ∧ ∀ X7, X7 = gm_pA X 1 (9 : Int32).toNatClampNeg 0 → gx_C (gm_O θ) mX7_of [.ref (gm_am θ), .int x1, .int 0, .int 0] X7 (gm_Pi (fun r20 X20 => vp_in 0 1000 ∧ ∀ X23, X23 = gm_pA X20 34 (0 : Int32).toNatClampNeg r20 → vp_in 0 1000 ∧ ∀ X30, X30 = gm_pA X23 35 (0 : Int32).toNatClampNeg 0 → gm_G θ K mX7_merges (gm_Pi P) 31 [(0, .ref (gm_am θ)), (1, .int x1), (2, .int x2), (3, .int x3), (4, .int 1)] [] X30))) : gm_G θ K mX7_merges (gm_Pi P) 0 [(0, .ref (gm_am θ)), (1, .int x1), (2, .int x2), (3, .int x3)] [] X := by
  refine gx_aload_n h 0 rfl dX7_merges_0 ?_
  refine gm_get1 h rfl dX7_merges_1 ?_
  refine gx_bipush (v := 9) h dX7_merges_4 (by decide) ?_
  refine gx_iconst (v := 0) h dX7_merges_6 (by decide) ?_
  refine gm_st1 h k.1 dX7_merges_7 ?_
  generalize hz : gm_pA X 1 (9 : Int32).toNatClampNeg 0 = X7
  replace k := k.2 X7 hz.symm
  refine gx_iconst (v := 1) h dX7_merges_8 (by decide) ?_
  refine gx_istore (L' := [(4, .int 1), (0, .ref (gm_am θ)), (1, .int x1), (2, .int x2), (3, .int x3)]) h (by decide) rfl dX7_merges_9 ?_
  refine gx_aload_n h 1 rfl dX7_merges_11 ?_
  refine gm_get34 h rfl dX7_merges_12 ?_
  refine gx_iconst (v := 0) h dX7_merges_15 (by decide) ?_
  refine gx_aload_n h 1 rfl dX7_merges_16 ?_
  refine gx_iload_n h 2 rfl dX7_merges_17 ?_
  refine gx_iconst (v := 0) h dX7_merges_18 (by decide) ?_
  refine gx_iconst (v := 0) h dX7_merges_19 (by decide) ?_
  refine gm_c_of h rfl ⟨Nat.le_of_ble_eq_true rfl, Nat.le_of_ble_eq_true rfl⟩ (Nat.le_of_ble_eq_true rfl) dX7_merges_20 (gx_C.mono k ?_)
  rintro _ X20 ⟨r20, rfl, k⟩
  refine ⟨r20, rfl, ?_⟩
  refine gm_st34 h k.1 dX7_merges_23 ?_
  generalize hz : gm_pA X20 34 (0 : Int32).toNatClampNeg r20 = X23
  replace k := k.2 X23 hz.symm
  refine gx_aload_n h 1 rfl dX7_merges_24 ?_
  refine gm_get35 h rfl dX7_merges_25 ?_
  refine gx_iconst (v := 0) h dX7_merges_28 (by decide) ?_
  refine gx_iconst (v := 0) h dX7_merges_29 (by decide) ?_
  refine gm_st35 h k.1 dX7_merges_30 ?_
  generalize hz : gm_pA X23 35 (0 : Int32).toNatClampNeg 0 = X30
  replace k := k.2 X30 hz.symm
  exact gx_sub [1, 2, 3, 4, 0] rfl k
theorem bm_merges_31 {θ : gm_T} {K : gx_K} {P : Int32 → gm_X → Prop} {X : gm_X} {x1 x2 x3 x4 : Int32} (h : gm_K θ K mX7_merges) (k : ((x4 ≤ 0 → gx_C (gm_O θ) mX7_hasTwice [.ref (gm_am θ), .int 9] X (gm_Pi (fun r389 X389 => ((r389 = 0 → P 1 X389) ∧ (¬ r389 = 0 → P 0 X389))))) ∧ (¬ x4 ≤ 0 → vp_in (x4 + (-1)) 1000 ∧ ∀ x5_46 : Int32, x5_46 = X.2 34 (x4 + (-1)).toNatClampNeg → vp_in (x4 + (-1)) 1000 ∧ ∀ x6_55 : Int32, x6_55 = X.2 35 (x4 + (-1)).toNatClampNeg → vp_in 9 11 ∧ ∀ x7_64 : Int32, x7_64 = X.2 1 (9 : Int32).toNatClampNeg → gx_C (gm_O θ) mX7_whose [.ref (gm_am θ), .int x1, .int x2, .int x3, .int x5_46, .int 0] X (gm_Pi (fun r73 X73 => gx_C (gm_O θ) mX7_named [.ref (gm_am θ), .int 9, .int x5_46] X73 (gm_Pi (fun r83 X83 => ((0 ≤ r83 → gm_G θ K mX7_merges (gm_Pi P) 108 [] [] X83) ∧ (¬ 0 ≤ r83 → ((r73 < 0 → gm_G θ K mX7_merges (gm_Pi P) 108 [] [] X83) ∧ (¬ r73 < 0 → ((x7_64 = 30 → gm_G θ K mX7_merges (gm_Pi P) 108 [] [] X83) ∧ (¬ x7_64 = 30 → ((x6_55 < 12 → gx_C (gm_O θ) mX7_whose [.ref (gm_am θ), .int x1, .int x2, .int x3, .int x5_46, .int 1] X83 (gm_Pi (fun r117 X117 => gx_C (gm_O θ) mX7_whose [.ref (gm_am θ), .int x1, .int x2, .int x3, .int x5_46, .int 2] X117 (gm_Pi (fun r129 X129 => gx_C (gm_O θ) mX7_whose [.ref (gm_am θ), .int x1, .int x2, .int x3, .int x5_46, .int 3] X129 (gm_Pi (fun r141 X141 => gx_C (gm_O θ) mX7_set [.ref (gm_am θ), .int 9, .int x7_64, .int 0, .int x5_46] X141 (gm_Pv (fun X154 => gx_C (gm_O θ) mX7_named [.ref (gm_am θ), .int r73, .int x5_46] X154 (gm_Pi (fun r171 X171 => gx_C (gm_O θ) mX7_of [.ref (gm_am θ), .int r73, .int r171, .int 1] X171 (gm_Pi (fun r175 X175 => gx_C (gm_O θ) mX7_set [.ref (gm_am θ), .int 9, .int x7_64, .int 1, .int r175] X175 (gm_Pv (fun X178 => gx_C (gm_O θ) mX7_set [.ref (gm_am θ), .int 9, .int x7_64, .int 2, .int x6_55] X178 (gm_Pv (fun X189 => gm_G θ K mX7_merges (gm_Pi P) 195 [(0, .ref (gm_am θ)), (1, .int x1), (2, .int x2), (3, .int x3), (4, .int (x4 + (-1))), (5, .int x5_46), (6, .int x6_55), (7, .int x7_64), (9, .int r117), (10, .int r129), (11, .int r141), (12, .int 3)] [] X189))))))))))))))))) ∧ (¬ x6_55 < 12 → gm_G θ K mX7_merges (gm_Pi P) 108 [] [] X83))))))))))))))) : gm_G θ K mX7_merges (gm_Pi P) 31 [(0, .ref (gm_am θ)), (1, .int x1), (2, .int x2), (3, .int x3), (4, .int x4)] [] X := by
  refine gx_iload h 4 rfl dX7_merges_31 ?_
  refine gx_if_le (tgt := 386) h (by decide) dX7_merges_33 (fun c => ?_) (fun c => ?_)
  · replace k := k.1 c
    refine gx_aload_n h 0 rfl dX7_merges_386 ?_
    refine gx_bipush (v := 9) h dX7_merges_387 (by decide) ?_
    refine gm_c_hasTwice h rfl ⟨Nat.le_of_ble_eq_true rfl, Nat.le_of_ble_eq_true rfl⟩ (Nat.le_of_ble_eq_true rfl) dX7_merges_389 (gx_C.mono k ?_)
    rintro _ X389 ⟨r389, rfl, k⟩
    refine ⟨r389, rfl, ?_⟩
    refine gx_if_ne (tgt := 399) h (by decide) dX7_merges_392 (fun c => ?_) (fun c => ?_)
    · replace k := k.2 c
      refine gx_iconst (v := 0) h dX7_merges_399 (by decide) ?_
      exact gx_zret h rfl rfl dX7_merges_400 ⟨_, rfl, k⟩
    · replace k := k.1 c
      refine gx_iconst (v := 1) h dX7_merges_395 (by decide) ?_
      refine gx_goto (tgt := 400) h (by decide) dX7_merges_396 ?_
      exact gx_zret h rfl rfl dX7_merges_400 ⟨_, rfl, k⟩
  · replace k := k.2 c
    refine gx_iinc (v := x4 + (-1)) (L' := [(4, .int (x4 + (-1))), (0, .ref (gm_am θ)), (1, .int x1), (2, .int x2), (3, .int x3)]) h 4 rfl (congrArg (fun q => x4 + q) (by decide)) (by decide) rfl dX7_merges_36 ?_
    refine gx_aload_n h 1 rfl dX7_merges_39 ?_
    refine gm_get34 h rfl dX7_merges_40 ?_
    refine gx_iload h 0 rfl dX7_merges_43 ?_
    refine gm_ld34 h k.1 dX7_merges_45 ?_
    replace k := k.2
    generalize hz : X.2 34 (x4 + (-1)).toNatClampNeg = x5_46
    replace k := k x5_46 hz.symm
    refine gx_istore (L' := [(5, .int x5_46), (4, .int (x4 + (-1))), (0, .ref (gm_am θ)), (1, .int x1), (2, .int x2), (3, .int x3)]) h (by decide) rfl dX7_merges_46 ?_
    refine gx_aload_n h 2 rfl dX7_merges_48 ?_
    refine gm_get35 h rfl dX7_merges_49 ?_
    refine gx_iload h 1 rfl dX7_merges_52 ?_
    refine gm_ld35 h k.1 dX7_merges_54 ?_
    replace k := k.2
    generalize hz : X.2 35 (x4 + (-1)).toNatClampNeg = x6_55
    replace k := k x6_55 hz.symm
    refine gx_istore (L' := [(6, .int x6_55), (5, .int x5_46), (4, .int (x4 + (-1))), (0, .ref (gm_am θ)), (1, .int x1), (2, .int x2), (3, .int x3)]) h (by decide) rfl dX7_merges_55 ?_
    refine gx_aload_n h 3 rfl dX7_merges_57 ?_
    refine gm_get1 h rfl dX7_merges_58 ?_
    refine gx_bipush (v := 9) h dX7_merges_61 (by decide) ?_
    refine gm_ld1 h k.1 dX7_merges_63 ?_
    replace k := k.2
    generalize hz : X.2 1 (9 : Int32).toNatClampNeg = x7_64
    replace k := k x7_64 hz.symm
    refine gx_istore (L' := [(7, .int x7_64), (6, .int x6_55), (5, .int x5_46), (4, .int (x4 + (-1))), (0, .ref (gm_am θ)), (1, .int x1), (2, .int x2), (3, .int x3)]) h (by decide) rfl dX7_merges_64 ?_
    refine gx_aload_n h 4 rfl dX7_merges_66 ?_
    refine gx_iload_n h 5 rfl dX7_merges_67 ?_
    refine gx_iload_n h 6 rfl dX7_merges_68 ?_
    refine gx_iload_n h 7 rfl dX7_merges_69 ?_
    refine gx_iload h 2 rfl dX7_merges_70 ?_
    refine gx_iconst (v := 0) h dX7_merges_72 (by decide) ?_
    refine gm_c_whose h rfl ⟨Nat.le_of_ble_eq_true rfl, Nat.le_of_ble_eq_true rfl⟩ (Nat.le_of_ble_eq_true rfl) dX7_merges_73 (gx_C.mono k ?_)
    rintro _ X73 ⟨r73, rfl, k⟩
    refine ⟨r73, rfl, ?_⟩
    refine gx_istore (L' := [(8, .int r73), (7, .int x7_64), (6, .int x6_55), (5, .int x5_46), (4, .int (x4 + (-1))), (0, .ref (gm_am θ)), (1, .int x1), (2, .int x2), (3, .int x3)]) h (by decide) rfl dX7_merges_76 ?_
    refine gx_aload_n h 5 rfl dX7_merges_78 ?_
    refine gx_bipush (v := 9) h dX7_merges_79 (by decide) ?_
    refine gx_iload h 3 rfl dX7_merges_81 ?_
    refine gm_c_named h rfl ⟨Nat.le_of_ble_eq_true rfl, Nat.le_of_ble_eq_true rfl⟩ (Nat.le_of_ble_eq_true rfl) dX7_merges_83 (gx_C.mono k ?_)
    rintro _ X83 ⟨r83, rfl, k⟩
    refine ⟨r83, rfl, ?_⟩
    refine gx_if_ge (tgt := 108) h (by decide) dX7_merges_86 (fun c => ?_) (fun c => ?_)
    · replace k := k.1 c
      exact gx_sub [] rfl k
    · replace k := k.2 c
      refine gx_iload h 0 rfl dX7_merges_89 ?_
      refine gx_if_lt (tgt := 108) h (by decide) dX7_merges_91 (fun c => ?_) (fun c => ?_)
      · replace k := k.1 c
        exact gx_sub [] rfl k
      · replace k := k.2 c
        refine gx_iload h 1 rfl dX7_merges_94 ?_
        refine gx_bipush (v := 30) h dX7_merges_96 (by decide) ?_
        refine gx_icmp_eq (tgt := 108) h (by decide) dX7_merges_98 (fun c => ?_) (fun c => ?_)
        · replace k := k.1 c
          exact gx_sub [] rfl k
        · replace k := k.2 c
          refine gx_iload h 2 rfl dX7_merges_101 ?_
          refine gx_bipush (v := 12) h dX7_merges_103 (by decide) ?_
          refine gx_icmp_lt (tgt := 110) h (by decide) dX7_merges_105 (fun c => ?_) (fun c => ?_)
          · replace k := k.1 c
            refine gx_aload_n h 5 rfl dX7_merges_110 ?_
            refine gx_iload_n h 6 rfl dX7_merges_111 ?_
            refine gx_iload_n h 7 rfl dX7_merges_112 ?_
            refine gx_iload_n h 8 rfl dX7_merges_113 ?_
            refine gx_iload h 3 rfl dX7_merges_114 ?_
            refine gx_iconst (v := 1) h dX7_merges_116 (by decide) ?_
            refine gm_c_whose h rfl ⟨Nat.le_of_ble_eq_true rfl, Nat.le_of_ble_eq_true rfl⟩ (Nat.le_of_ble_eq_true rfl) dX7_merges_117 (gx_C.mono k ?_)
            rintro _ X117 ⟨r117, rfl, k⟩
            refine ⟨r117, rfl, ?_⟩
            refine gx_istore (L' := [(9, .int r117), (8, .int r73), (7, .int x7_64), (6, .int x6_55), (5, .int x5_46), (4, .int (x4 + (-1))), (0, .ref (gm_am θ)), (1, .int x1), (2, .int x2), (3, .int x3)]) h (by decide) rfl dX7_merges_120 ?_
            refine gx_aload_n h 6 rfl dX7_merges_122 ?_
            refine gx_iload_n h 7 rfl dX7_merges_123 ?_
            refine gx_iload_n h 8 rfl dX7_merges_124 ?_
            refine gx_iload_n h 9 rfl dX7_merges_125 ?_
            refine gx_iload h 4 rfl dX7_merges_126 ?_
            refine gx_iconst (v := 2) h dX7_merges_128 (by decide) ?_
            refine gm_c_whose h rfl ⟨Nat.le_of_ble_eq_true rfl, Nat.le_of_ble_eq_true rfl⟩ (Nat.le_of_ble_eq_true rfl) dX7_merges_129 (gx_C.mono k ?_)
            rintro _ X129 ⟨r129, rfl, k⟩
            refine ⟨r129, rfl, ?_⟩
            refine gx_istore (L' := [(10, .int r129), (9, .int r117), (8, .int r73), (7, .int x7_64), (6, .int x6_55), (5, .int x5_46), (4, .int (x4 + (-1))), (0, .ref (gm_am θ)), (1, .int x1), (2, .int x2), (3, .int x3)]) h (by decide) rfl dX7_merges_132 ?_
            refine gx_aload_n h 7 rfl dX7_merges_134 ?_
            refine gx_iload_n h 8 rfl dX7_merges_135 ?_
            refine gx_iload_n h 9 rfl dX7_merges_136 ?_
            refine gx_iload_n h 10 rfl dX7_merges_137 ?_
            refine gx_iload h 5 rfl dX7_merges_138 ?_
            refine gx_iconst (v := 3) h dX7_merges_140 (by decide) ?_
            refine gm_c_whose h rfl ⟨Nat.le_of_ble_eq_true rfl, Nat.le_of_ble_eq_true rfl⟩ (Nat.le_of_ble_eq_true rfl) dX7_merges_141 (gx_C.mono k ?_)
            rintro _ X141 ⟨r141, rfl, k⟩
            refine ⟨r141, rfl, ?_⟩
            refine gx_istore (L' := [(11, .int r141), (10, .int r129), (9, .int r117), (8, .int r73), (7, .int x7_64), (6, .int x6_55), (5, .int x5_46), (4, .int (x4 + (-1))), (0, .ref (gm_am θ)), (1, .int x1), (2, .int x2), (3, .int x3)]) h (by decide) rfl dX7_merges_144 ?_
            refine gx_aload_n h 8 rfl dX7_merges_146 ?_
            refine gx_bipush (v := 9) h dX7_merges_147 (by decide) ?_
            refine gx_iload h 4 rfl dX7_merges_149 ?_
            refine gx_iconst (v := 0) h dX7_merges_151 (by decide) ?_
            refine gx_iload h 6 rfl dX7_merges_152 ?_
            refine gm_c_set h rfl ⟨Nat.le_of_ble_eq_true rfl, Nat.le_of_ble_eq_true rfl⟩ (Nat.le_of_ble_eq_true rfl) dX7_merges_154 (gx_C.mono k ?_)
            rintro _ X154 ⟨rfl, k⟩
            refine ⟨rfl, ?_⟩
            refine gx_aload_n h 8 rfl dX7_merges_157 ?_
            refine gx_bipush (v := 9) h dX7_merges_158 (by decide) ?_
            refine gx_iload h 4 rfl dX7_merges_160 ?_
            refine gx_iconst (v := 1) h dX7_merges_162 (by decide) ?_
            refine gx_aload_n h 8 rfl dX7_merges_163 ?_
            refine gx_iload h 3 rfl dX7_merges_164 ?_
            refine gx_aload_n h 8 rfl dX7_merges_166 ?_
            refine gx_iload h 3 rfl dX7_merges_167 ?_
            refine gx_iload h 6 rfl dX7_merges_169 ?_
            refine gm_c_named h rfl ⟨Nat.le_of_ble_eq_true rfl, Nat.le_of_ble_eq_true rfl⟩ (Nat.le_of_ble_eq_true rfl) dX7_merges_171 (gx_C.mono k ?_)
            rintro _ X171 ⟨r171, rfl, k⟩
            refine ⟨r171, rfl, ?_⟩
            refine gx_iconst (v := 1) h dX7_merges_174 (by decide) ?_
            refine gm_c_of h rfl ⟨Nat.le_of_ble_eq_true rfl, Nat.le_of_ble_eq_true rfl⟩ (Nat.le_of_ble_eq_true rfl) dX7_merges_175 (gx_C.mono k ?_)
            rintro _ X175 ⟨r175, rfl, k⟩
            refine ⟨r175, rfl, ?_⟩
            refine gm_c_set h rfl ⟨Nat.le_of_ble_eq_true rfl, Nat.le_of_ble_eq_true rfl⟩ (Nat.le_of_ble_eq_true rfl) dX7_merges_178 (gx_C.mono k ?_)
            rintro _ X178 ⟨rfl, k⟩
            refine ⟨rfl, ?_⟩
            refine gx_aload_n h 8 rfl dX7_merges_181 ?_
            refine gx_bipush (v := 9) h dX7_merges_182 (by decide) ?_
            refine gx_iload h 4 rfl dX7_merges_184 ?_
            refine gx_iconst (v := 2) h dX7_merges_186 (by decide) ?_
            refine gx_iload h 5 rfl dX7_merges_187 ?_
            refine gm_c_set h rfl ⟨Nat.le_of_ble_eq_true rfl, Nat.le_of_ble_eq_true rfl⟩ (Nat.le_of_ble_eq_true rfl) dX7_merges_189 (gx_C.mono k ?_)
            rintro _ X189 ⟨rfl, k⟩
            refine ⟨rfl, ?_⟩
            refine gx_iconst (v := 3) h dX7_merges_192 (by decide) ?_
            refine gx_istore (L' := [(12, .int 3), (11, .int r141), (10, .int r129), (9, .int r117), (8, .int r73), (7, .int x7_64), (6, .int x6_55), (5, .int x5_46), (4, .int (x4 + (-1))), (0, .ref (gm_am θ)), (1, .int x1), (2, .int x2), (3, .int x3)]) h (by decide) rfl dX7_merges_193 ?_
            exact gx_sub [9, 10, 11, 12, 8, 7, 6, 5, 3, 2, 1, 0] rfl k
          · replace k := k.2 c
            exact gx_sub [] rfl k
theorem bm_merges_108 {θ : gm_T} {K : gx_K} {P : Int32 → gm_X → Prop} {X : gm_X} (h : gm_K θ K mX7_merges) (k : P 0 X) : gm_G θ K mX7_merges (gm_Pi P) 108 [] [] X := by
  refine gx_iconst (v := 0) h dX7_merges_108 (by decide) ?_
  exact gx_zret h rfl rfl dX7_merges_109 ⟨_, rfl, k⟩
theorem bm_merges_195 {θ : gm_T} {K : gx_K} {P : Int32 → gm_X → Prop} {X : gm_X} {x1 x2 x3 x4 x5 x6 x7 x9 x10 x11 x12 : Int32} (h : gm_K θ K mX7_merges) (k : ((10 ≤ x12 → gm_G θ K mX7_merges (gm_Pi P) 238 [(0, .ref (gm_am θ)), (1, .int x1), (2, .int x2), (3, .int x3), (4, .int x4), (5, .int x5), (6, .int x6), (7, .int x7), (10, .int x10), (11, .int x11), (12, .int 10)] [] X) ∧ (¬ 10 ≤ x12 → gx_C (gm_O θ) mX7_named [.ref (gm_am θ), .int x9, .int x5] X (gm_Pi (fun r217 X217 => gx_C (gm_O θ) mX7_of [.ref (gm_am θ), .int x9, .int r217, .int x12] X217 (gm_Pi (fun r222 X222 => gx_C (gm_O θ) mX7_set [.ref (gm_am θ), .int 9, .int x7, .int x12, .int r222] X222 (gm_Pv (fun X225 => gm_G θ K mX7_merges (gm_Pi P) 195 [(0, .ref (gm_am θ)), (1, .int x1), (2, .int x2), (3, .int x3), (4, .int x4), (5, .int x5), (6, .int x6), (7, .int x7), (9, .int x9), (10, .int x10), (11, .int x11), (12, .int (x12 + 1))] [] X225))))))))) : gm_G θ K mX7_merges (gm_Pi P) 195 [(0, .ref (gm_am θ)), (1, .int x1), (2, .int x2), (3, .int x3), (4, .int x4), (5, .int x5), (6, .int x6), (7, .int x7), (9, .int x9), (10, .int x10), (11, .int x11), (12, .int x12)] [] X := by
  refine gx_iload h 11 rfl dX7_merges_195 ?_
  refine gx_bipush (v := 10) h dX7_merges_197 (by decide) ?_
  refine gx_icmp_ge (tgt := 234) h (by decide) dX7_merges_199 (fun c => ?_) (fun c => ?_)
  · replace k := k.1 c
    refine gx_bipush (v := 10) h dX7_merges_234 (by decide) ?_
    refine gx_istore (L' := [(12, .int 10), (0, .ref (gm_am θ)), (1, .int x1), (2, .int x2), (3, .int x3), (4, .int x4), (5, .int x5), (6, .int x6), (7, .int x7), (9, .int x9), (10, .int x10), (11, .int x11)]) h (by decide) rfl dX7_merges_236 ?_
    exact gx_sub [1, 2, 3, 4, 5, 6, 7, 8, 10, 11, 0] rfl k
  · replace k := k.2 c
    refine gx_aload_n h 0 rfl dX7_merges_202 ?_
    refine gx_bipush (v := 9) h dX7_merges_203 (by decide) ?_
    refine gx_iload h 7 rfl dX7_merges_205 ?_
    refine gx_iload h 11 rfl dX7_merges_207 ?_
    refine gx_aload_n h 0 rfl dX7_merges_209 ?_
    refine gx_iload h 8 rfl dX7_merges_210 ?_
    refine gx_aload_n h 0 rfl dX7_merges_212 ?_
    refine gx_iload h 8 rfl dX7_merges_213 ?_
    refine gx_iload h 5 rfl dX7_merges_215 ?_
    refine gm_c_named h rfl ⟨Nat.le_of_ble_eq_true rfl, Nat.le_of_ble_eq_true rfl⟩ (Nat.le_of_ble_eq_true rfl) dX7_merges_217 (gx_C.mono k ?_)
    rintro _ X217 ⟨r217, rfl, k⟩
    refine ⟨r217, rfl, ?_⟩
    refine gx_iload h 11 rfl dX7_merges_220 ?_
    refine gm_c_of h rfl ⟨Nat.le_of_ble_eq_true rfl, Nat.le_of_ble_eq_true rfl⟩ (Nat.le_of_ble_eq_true rfl) dX7_merges_222 (gx_C.mono k ?_)
    rintro _ X222 ⟨r222, rfl, k⟩
    refine ⟨r222, rfl, ?_⟩
    refine gm_c_set h rfl ⟨Nat.le_of_ble_eq_true rfl, Nat.le_of_ble_eq_true rfl⟩ (Nat.le_of_ble_eq_true rfl) dX7_merges_225 (gx_C.mono k ?_)
    rintro _ X225 ⟨rfl, k⟩
    refine ⟨rfl, ?_⟩
    refine gx_iinc (v := x12 + 1) (L' := [(12, .int (x12 + 1)), (0, .ref (gm_am θ)), (1, .int x1), (2, .int x2), (3, .int x3), (4, .int x4), (5, .int x5), (6, .int x6), (7, .int x7), (9, .int x9), (10, .int x10), (11, .int x11)]) h 11 rfl rfl (by decide) rfl dX7_merges_228 ?_
    refine gx_goto (tgt := 195) h (by decide) dX7_merges_231 ?_
    exact gx_sub [1, 2, 3, 4, 5, 6, 7, 8, 9, 10, 11, 0] rfl k
theorem bm_merges_238 {θ : gm_T} {K : gx_K} {P : Int32 → gm_X → Prop} {X : gm_X} {x1 x2 x3 x4 x5 x6 x7 x10 x11 x12 : Int32} (h : gm_K θ K mX7_merges) (k : ((19 ≤ x12 → vp_in 9 11 ∧ vp_in 9 11 ∧ ∀ X287, X287 = gm_pA X 1 (9 : Int32).toNatClampNeg ((X.2 1 (9 : Int32).toNatClampNeg) + 1) → gx_C (gm_O θ) mX7_named [.ref (gm_am θ), .int x11, .int x5] X287 (gm_Pi (fun r293 X293 => gx_C (gm_O θ) mX7_children [.ref (gm_am θ), .int x11, .int r293] X293 (gm_Pi (fun r303 X303 => ((r303 ≤ 0 → gm_G θ K mX7_merges (gm_Pi P) 328 [(0, .ref (gm_am θ)), (1, .int x1), (2, .int x2), (3, .int x3), (4, .int x4), (6, .int x6), (11, .int x11), (12, .int r293), (13, .int r303)] [] X303) ∧ (¬ r303 ≤ 0 → gx_C (gm_O θ) mX7_of [.ref (gm_am θ), .int 9, .int x7, .int 1] X303 (gm_Pi (fun r319 X319 => ((r319 = 3 → P 0 X319) ∧ (¬ r319 = 3 → gm_G θ K mX7_merges (gm_Pi P) 328 [(0, .ref (gm_am θ)), (1, .int x1), (2, .int x2), (3, .int x3), (4, .int x4), (6, .int x6), (11, .int x11), (12, .int r293), (13, .int r303)] [] X319))))))))))) ∧ (¬ 19 ≤ x12 → gx_C (gm_O θ) mX7_named [.ref (gm_am θ), .int x10, .int x5] X (gm_Pi (fun r260 X260 => gx_C (gm_O θ) mX7_of [.ref (gm_am θ), .int x10, .int r260, .int x12] X260 (gm_Pi (fun r265 X265 => gx_C (gm_O θ) mX7_set [.ref (gm_am θ), .int 9, .int x7, .int x12, .int r265] X265 (gm_Pv (fun X268 => gm_G θ K mX7_merges (gm_Pi P) 238 [(0, .ref (gm_am θ)), (1, .int x1), (2, .int x2), (3, .int x3), (4, .int x4), (5, .int x5), (6, .int x6), (7, .int x7), (10, .int x10), (11, .int x11), (12, .int (x12 + 1))] [] X268))))))))) : gm_G θ K mX7_merges (gm_Pi P) 238 [(0, .ref (gm_am θ)), (1, .int x1), (2, .int x2), (3, .int x3), (4, .int x4), (5, .int x5), (6, .int x6), (7, .int x7), (10, .int x10), (11, .int x11), (12, .int x12)] [] X := by
  refine gx_iload h 10 rfl dX7_merges_238 ?_
  refine gx_bipush (v := 19) h dX7_merges_240 (by decide) ?_
  refine gx_icmp_ge (tgt := 277) h (by decide) dX7_merges_242 (fun c => ?_) (fun c => ?_)
  · replace k := k.1 c
    refine gx_aload_n h 0 rfl dX7_merges_277 ?_
    refine gm_get1 h rfl dX7_merges_278 ?_
    refine gx_bipush (v := 9) h dX7_merges_281 (by decide) ?_
    refine gx_dup2 h rfl rfl dX7_merges_283 ?_
    refine gm_ld1 h k.1 dX7_merges_284 ?_
    replace k := k.2
    refine gx_iconst (v := 1) h dX7_merges_285 (by decide) ?_
    refine gx_iadd h dX7_merges_286 ?_
    refine gm_st1 h k.1 dX7_merges_287 ?_
    generalize hz : gm_pA X 1 (9 : Int32).toNatClampNeg ((X.2 1 (9 : Int32).toNatClampNeg) + 1) = X287
    replace k := k.2 X287 hz.symm
    refine gx_aload_n h 0 rfl dX7_merges_288 ?_
    refine gx_iload h 9 rfl dX7_merges_289 ?_
    refine gx_iload h 5 rfl dX7_merges_291 ?_
    refine gm_c_named h rfl ⟨Nat.le_of_ble_eq_true rfl, Nat.le_of_ble_eq_true rfl⟩ (Nat.le_of_ble_eq_true rfl) dX7_merges_293 (gx_C.mono k ?_)
    rintro _ X293 ⟨r293, rfl, k⟩
    refine ⟨r293, rfl, ?_⟩
    refine gx_istore (L' := [(12, .int r293), (0, .ref (gm_am θ)), (1, .int x1), (2, .int x2), (3, .int x3), (4, .int x4), (5, .int x5), (6, .int x6), (7, .int x7), (10, .int x10), (11, .int x11)]) h (by decide) rfl dX7_merges_296 ?_
    refine gx_aload_n h 1 rfl dX7_merges_298 ?_
    refine gx_iload h 10 rfl dX7_merges_299 ?_
    refine gx_iload h 0 rfl dX7_merges_301 ?_
    refine gm_c_children h rfl ⟨Nat.le_of_ble_eq_true rfl, Nat.le_of_ble_eq_true rfl⟩ (Nat.le_of_ble_eq_true rfl) dX7_merges_303 (gx_C.mono k ?_)
    rintro _ X303 ⟨r303, rfl, k⟩
    refine ⟨r303, rfl, ?_⟩
    refine gx_istore (L' := [(13, .int r303), (12, .int r293), (0, .ref (gm_am θ)), (1, .int x1), (2, .int x2), (3, .int x3), (4, .int x4), (5, .int x5), (6, .int x6), (7, .int x7), (10, .int x10), (11, .int x11)]) h (by decide) rfl dX7_merges_306 ?_
    refine gx_iload h 0 rfl dX7_merges_308 ?_
    refine gx_if_le (tgt := 328) h (by decide) dX7_merges_310 (fun c => ?_) (fun c => ?_)
    · replace k := k.1 c
      exact gx_sub [2, 3, 4, 5, 6, 8, 11, 1, 0] rfl k
    · replace k := k.2 c
      refine gx_aload_n h 2 rfl dX7_merges_313 ?_
      refine gx_bipush (v := 9) h dX7_merges_314 (by decide) ?_
      refine gx_iload h 9 rfl dX7_merges_316 ?_
      refine gx_iconst (v := 1) h dX7_merges_318 (by decide) ?_
      refine gm_c_of h rfl ⟨Nat.le_of_ble_eq_true rfl, Nat.le_of_ble_eq_true rfl⟩ (Nat.le_of_ble_eq_true rfl) dX7_merges_319 (gx_C.mono k ?_)
      rintro _ X319 ⟨r319, rfl, k⟩
      refine ⟨r319, rfl, ?_⟩
      refine gx_iconst (v := 3) h dX7_merges_322 (by decide) ?_
      refine gx_icmp_ne (tgt := 328) h (by decide) dX7_merges_323 (fun c => ?_) (fun c => ?_)
      · replace k := k.2 c
        exact gx_sub [2, 3, 4, 5, 6, 8, 11, 1, 0] rfl k
      · replace k := k.1 c
        refine gx_iconst (v := 0) h dX7_merges_326 (by decide) ?_
        exact gx_zret h rfl rfl dX7_merges_327 ⟨_, rfl, k⟩
  · replace k := k.2 c
    refine gx_aload_n h 0 rfl dX7_merges_245 ?_
    refine gx_bipush (v := 9) h dX7_merges_246 (by decide) ?_
    refine gx_iload h 7 rfl dX7_merges_248 ?_
    refine gx_iload h 10 rfl dX7_merges_250 ?_
    refine gx_aload_n h 0 rfl dX7_merges_252 ?_
    refine gx_iload h 8 rfl dX7_merges_253 ?_
    refine gx_aload_n h 0 rfl dX7_merges_255 ?_
    refine gx_iload h 8 rfl dX7_merges_256 ?_
    refine gx_iload h 5 rfl dX7_merges_258 ?_
    refine gm_c_named h rfl ⟨Nat.le_of_ble_eq_true rfl, Nat.le_of_ble_eq_true rfl⟩ (Nat.le_of_ble_eq_true rfl) dX7_merges_260 (gx_C.mono k ?_)
    rintro _ X260 ⟨r260, rfl, k⟩
    refine ⟨r260, rfl, ?_⟩
    refine gx_iload h 10 rfl dX7_merges_263 ?_
    refine gm_c_of h rfl ⟨Nat.le_of_ble_eq_true rfl, Nat.le_of_ble_eq_true rfl⟩ (Nat.le_of_ble_eq_true rfl) dX7_merges_265 (gx_C.mono k ?_)
    rintro _ X265 ⟨r265, rfl, k⟩
    refine ⟨r265, rfl, ?_⟩
    refine gm_c_set h rfl ⟨Nat.le_of_ble_eq_true rfl, Nat.le_of_ble_eq_true rfl⟩ (Nat.le_of_ble_eq_true rfl) dX7_merges_268 (gx_C.mono k ?_)
    rintro _ X268 ⟨rfl, k⟩
    refine ⟨rfl, ?_⟩
    refine gx_iinc (v := x12 + 1) (L' := [(12, .int (x12 + 1)), (0, .ref (gm_am θ)), (1, .int x1), (2, .int x2), (3, .int x3), (4, .int x4), (5, .int x5), (6, .int x6), (7, .int x7), (10, .int x10), (11, .int x11)]) h 10 rfl rfl (by decide) rfl dX7_merges_271 ?_
    refine gx_goto (tgt := 238) h (by decide) dX7_merges_274 ?_
    exact gx_sub [1, 2, 3, 4, 5, 6, 7, 8, 9, 10, 0] rfl k
theorem bm_merges_328 {θ : gm_T} {K : gx_K} {P : Int32 → gm_X → Prop} {X : gm_X} {x1 x2 x3 x4 x6 x11 x12 x13 : Int32} (h : gm_K θ K mX7_merges) (k : gm_G θ K mX7_merges (gm_Pi P) 334 [(0, .ref (gm_am θ)), (1, .int x1), (2, .int x2), (3, .int x3), (4, .int x4), (6, .int x6), (11, .int x11), (12, .int x12), (14, .int (x13 - 1))] [] X) : gm_G θ K mX7_merges (gm_Pi P) 328 [(0, .ref (gm_am θ)), (1, .int x1), (2, .int x2), (3, .int x3), (4, .int x4), (6, .int x6), (11, .int x11), (12, .int x12), (13, .int x13)] [] X := by
  refine gx_iload h 8 rfl dX7_merges_328 ?_
  refine gx_iconst (v := 1) h dX7_merges_330 (by decide) ?_
  refine gx_isub h dX7_merges_331 ?_
  refine gx_istore (L' := [(14, .int (x13 - 1)), (0, .ref (gm_am θ)), (1, .int x1), (2, .int x2), (3, .int x3), (4, .int x4), (6, .int x6), (11, .int x11), (12, .int x12), (13, .int x13)]) h (by decide) rfl dX7_merges_332 ?_
  exact gx_sub [1, 2, 3, 4, 5, 6, 7, 8, 0] rfl k
theorem bm_merges_334 {θ : gm_T} {K : gx_K} {P : Int32 → gm_X → Prop} {X : gm_X} {x1 x2 x3 x4 x6 x11 x12 x14 : Int32} (h : gm_K θ K mX7_merges) (k : ((x14 < 0 → gm_G θ K mX7_merges (gm_Pi P) 31 [(0, .ref (gm_am θ)), (1, .int x1), (2, .int x2), (3, .int x3), (4, .int x4)] [] X) ∧ (¬ x14 < 0 → gx_C (gm_O θ) mX7_child [.ref (gm_am θ), .int x11, .int x12, .int x14] X (gm_Pi (fun r355 X355 => gx_C (gm_O θ) mX7_of [.ref (gm_am θ), .int x11, .int r355, .int 0] X355 (gm_Pi (fun r359 X359 => vp_in x4 1000 ∧ ∀ X362, X362 = gm_pA X359 34 x4.toNatClampNeg r359 → vp_in x4 1000 ∧ ∀ X373, X373 = gm_pA X362 35 x4.toNatClampNeg (x6 + 1) → gm_G θ K mX7_merges (gm_Pi P) 334 [(0, .ref (gm_am θ)), (1, .int x1), (2, .int x2), (3, .int x3), (4, .int (x4 + 1)), (6, .int x6), (11, .int x11), (12, .int x12), (14, .int (x14 + (-1)))] [] X373))))))) : gm_G θ K mX7_merges (gm_Pi P) 334 [(0, .ref (gm_am θ)), (1, .int x1), (2, .int x2), (3, .int x3), (4, .int x4), (6, .int x6), (11, .int x11), (12, .int x12), (14, .int x14)] [] X := by
  refine gx_iload h 8 rfl dX7_merges_334 ?_
  refine gx_if_lt (tgt := 383) h (by decide) dX7_merges_336 (fun c => ?_) (fun c => ?_)
  · replace k := k.1 c
    refine gx_goto (tgt := 31) h (by decide) dX7_merges_383 ?_
    exact gx_sub [0, 1, 2, 3, 4] rfl k
  · replace k := k.2 c
    refine gx_aload_n h 0 rfl dX7_merges_339 ?_
    refine gm_get34 h rfl dX7_merges_340 ?_
    refine gx_iload h 4 rfl dX7_merges_343 ?_
    refine gx_aload_n h 0 rfl dX7_merges_345 ?_
    refine gx_iload h 6 rfl dX7_merges_346 ?_
    refine gx_aload_n h 0 rfl dX7_merges_348 ?_
    refine gx_iload h 6 rfl dX7_merges_349 ?_
    refine gx_iload h 7 rfl dX7_merges_351 ?_
    refine gx_iload h 8 rfl dX7_merges_353 ?_
    refine gm_c_child h rfl ⟨Nat.le_of_ble_eq_true rfl, Nat.le_of_ble_eq_true rfl⟩ (Nat.le_of_ble_eq_true rfl) dX7_merges_355 (gx_C.mono k ?_)
    rintro _ X355 ⟨r355, rfl, k⟩
    refine ⟨r355, rfl, ?_⟩
    refine gx_iconst (v := 0) h dX7_merges_358 (by decide) ?_
    refine gm_c_of h rfl ⟨Nat.le_of_ble_eq_true rfl, Nat.le_of_ble_eq_true rfl⟩ (Nat.le_of_ble_eq_true rfl) dX7_merges_359 (gx_C.mono k ?_)
    rintro _ X359 ⟨r359, rfl, k⟩
    refine ⟨r359, rfl, ?_⟩
    refine gm_st34 h k.1 dX7_merges_362 ?_
    generalize hz : gm_pA X359 34 x4.toNatClampNeg r359 = X362
    replace k := k.2 X362 hz.symm
    refine gx_aload_n h 0 rfl dX7_merges_363 ?_
    refine gm_get35 h rfl dX7_merges_364 ?_
    refine gx_iload h 4 rfl dX7_merges_367 ?_
    refine gx_iload h 5 rfl dX7_merges_369 ?_
    refine gx_iconst (v := 1) h dX7_merges_371 (by decide) ?_
    refine gx_iadd h dX7_merges_372 ?_
    refine gm_st35 h k.1 dX7_merges_373 ?_
    generalize hz : gm_pA X362 35 x4.toNatClampNeg (x6 + 1) = X373
    replace k := k.2 X373 hz.symm
    refine gx_iinc (v := x4 + 1) (L' := [(4, .int (x4 + 1)), (0, .ref (gm_am θ)), (1, .int x1), (2, .int x2), (3, .int x3), (6, .int x6), (11, .int x11), (12, .int x12), (14, .int x14)]) h 4 rfl rfl (by decide) rfl dX7_merges_374 ?_
    refine gx_iinc (v := x14 + (-1)) (L' := [(14, .int (x14 + (-1))), (4, .int (x4 + 1)), (0, .ref (gm_am θ)), (1, .int x1), (2, .int x2), (3, .int x3), (6, .int x6), (11, .int x11), (12, .int x12)]) h 8 rfl (congrArg (fun q => x14 + q) (by decide)) (by decide) rfl dX7_merges_377 ?_
    refine gx_goto (tgt := 334) h (by decide) dX7_merges_380 ?_
    exact gx_sub [2, 3, 4, 5, 1, 6, 7, 8, 0] rfl k
/-! whose -/
theorem em_whose {θ : gm_T} {P : Int32 → gm_X → Prop} {X : gm_X} {x1 : Int32} {x2 : Int32} {x3 : Int32} {x4 : Int32} {x5 : Int32} (body : ∀ K, gm_K θ K mX7_whose → gm_G θ K mX7_whose (gm_Pi P) 0 [(0, .ref (gm_am θ)), (1, .int x1), (2, .int x2), (3, .int x3), (4, .int x4), (5, .int x5)] [] X) : gx_C (gm_O θ) mX7_whose [.ref (gm_am θ), .int x1, .int x2, .int x3, .int x4, .int x5] X (gm_Pi P) :=
  gx_C.intro (gm_z θ) (by decide) (Nat.le_of_ble_eq_true rfl) body
theorem bm_whose_0 {θ : gm_T} {K : gx_K} {P : Int32 → gm_X → Prop} {X : gm_X} {x1 x2 x3 x4 x5 : Int32} (h : gm_K θ K mX7_whose) (k : gx_C (gm_O θ) mX7_named [.ref (gm_am θ), .int x1, .int x4] X (gm_Pi (fun r4 X4 => gx_C (gm_O θ) mX7_named [.ref (gm_am θ), .int x2, .int x4] X4 (gm_Pi (fun r13 X13 => gx_C (gm_O θ) mX7_named [.ref (gm_am θ), .int x3, .int x4] X13 (gm_Pi (fun r22 X22 => ∀ X29, X29 = gm_pI X22 33 0 → ((r13 < 0 → gm_G θ K mX7_whose (gm_Pi P) 103 [(0, .ref (gm_am θ)), (2, .int x2), (3, .int x3), (5, .int x5), (7, .int r13), (8, .int r22)] [] X29) ∧ (¬ r13 < 0 → ((r22 < 0 → gm_G θ K mX7_whose (gm_Pi P) 103 [(0, .ref (gm_am θ)), (2, .int x2), (3, .int x3), (5, .int x5), (7, .int r13), (8, .int r22)] [] X29) ∧ (¬ r22 < 0 → ((r4 < 0 → gm_G θ K mX7_whose (gm_Pi P) 103 [(0, .ref (gm_am θ)), (2, .int x2), (3, .int x3), (5, .int x5), (7, .int r13), (8, .int r22)] [] X29) ∧ (¬ r4 < 0 → gx_C (gm_O θ) mX7_isField [.ref (gm_am θ), .int x2, .int r13, .int x1, .int r4, .int x5] X29 (gm_Pi (fun r56 X56 => ((r56 = 0 → gx_C (gm_O θ) mX7_isField [.ref (gm_am θ), .int x3, .int r22, .int x1, .int r4, .int x5] X56 (gm_Pi (fun r73 X73 => ((r73 = 0 → gx_C (gm_O θ) mX7_isField [.ref (gm_am θ), .int x2, .int r13, .int x3, .int r22, .int x5] X73 (gm_Pi (fun r88 X88 => ((r88 = 0 → ∀ X98, X98 = gm_pI X88 33 1 → P x1 X98) ∧ (¬ r88 = 0 → gm_G θ K mX7_whose (gm_Pi P) 94 [(2, .int x2)] [] X88))))) ∧ (¬ r73 = 0 → gm_G θ K mX7_whose (gm_Pi P) 94 [(2, .int x2)] [] X73))))) ∧ (¬ r56 = 0 → P x3 X56))))))))))))))))) : gm_G θ K mX7_whose (gm_Pi P) 0 [(0, .ref (gm_am θ)), (1, .int x1), (2, .int x2), (3, .int x3), (4, .int x4), (5, .int x5)] [] X := by
  refine gx_aload_n h 0 rfl dX7_whose_0 ?_
  refine gx_iload_n h 1 rfl dX7_whose_1 ?_
  refine gx_iload h 4 rfl dX7_whose_2 ?_
  refine gm_c_named h rfl ⟨Nat.le_of_ble_eq_true rfl, Nat.le_of_ble_eq_true rfl⟩ (Nat.le_of_ble_eq_true rfl) dX7_whose_4 (gx_C.mono k ?_)
  rintro _ X4 ⟨r4, rfl, k⟩
  refine ⟨r4, rfl, ?_⟩
  refine gx_istore (L' := [(6, .int r4), (0, .ref (gm_am θ)), (1, .int x1), (2, .int x2), (3, .int x3), (4, .int x4), (5, .int x5)]) h (by decide) rfl dX7_whose_7 ?_
  refine gx_aload_n h 1 rfl dX7_whose_9 ?_
  refine gx_iload_n h 3 rfl dX7_whose_10 ?_
  refine gx_iload h 5 rfl dX7_whose_11 ?_
  refine gm_c_named h rfl ⟨Nat.le_of_ble_eq_true rfl, Nat.le_of_ble_eq_true rfl⟩ (Nat.le_of_ble_eq_true rfl) dX7_whose_13 (gx_C.mono k ?_)
  rintro _ X13 ⟨r13, rfl, k⟩
  refine ⟨r13, rfl, ?_⟩
  refine gx_istore (L' := [(7, .int r13), (6, .int r4), (0, .ref (gm_am θ)), (1, .int x1), (2, .int x2), (3, .int x3), (4, .int x4), (5, .int x5)]) h (by decide) rfl dX7_whose_16 ?_
  refine gx_aload_n h 2 rfl dX7_whose_18 ?_
  refine gx_iload_n h 5 rfl dX7_whose_19 ?_
  refine gx_iload h 6 rfl dX7_whose_20 ?_
  refine gm_c_named h rfl ⟨Nat.le_of_ble_eq_true rfl, Nat.le_of_ble_eq_true rfl⟩ (Nat.le_of_ble_eq_true rfl) dX7_whose_22 (gx_C.mono k ?_)
  rintro _ X22 ⟨r22, rfl, k⟩
  refine ⟨r22, rfl, ?_⟩
  refine gx_istore (L' := [(8, .int r22), (7, .int r13), (6, .int r4), (0, .ref (gm_am θ)), (1, .int x1), (2, .int x2), (3, .int x3), (4, .int x4), (5, .int x5)]) h (by decide) rfl dX7_whose_25 ?_
  refine gx_aload_n h 3 rfl dX7_whose_27 ?_
  refine gx_iconst (v := 0) h dX7_whose_28 (by decide) ?_
  refine gm_put33 h rfl rfl rfl dX7_whose_29 ?_
  generalize hz : gm_pI X22 33 0 = X29
  replace k := k X29 hz.symm
  refine gx_iload h 1 rfl dX7_whose_32 ?_
  refine gx_if_lt (tgt := 103) h (by decide) dX7_whose_34 (fun c => ?_) (fun c => ?_)
  · replace k := k.1 c
    exact gx_sub [3, 5, 6, 8, 1, 0] rfl k
  · replace k := k.2 c
    refine gx_iload h 0 rfl dX7_whose_37 ?_
    refine gx_if_lt (tgt := 103) h (by decide) dX7_whose_39 (fun c => ?_) (fun c => ?_)
    · replace k := k.1 c
      exact gx_sub [3, 5, 6, 8, 1, 0] rfl k
    · replace k := k.2 c
      refine gx_iload h 2 rfl dX7_whose_42 ?_
      refine gx_if_lt (tgt := 103) h (by decide) dX7_whose_44 (fun c => ?_) (fun c => ?_)
      · replace k := k.1 c
        exact gx_sub [3, 5, 6, 8, 1, 0] rfl k
      · replace k := k.2 c
        refine gx_aload_n h 3 rfl dX7_whose_47 ?_
        refine gx_iload_n h 5 rfl dX7_whose_48 ?_
        refine gx_iload h 1 rfl dX7_whose_49 ?_
        refine gx_iload_n h 4 rfl dX7_whose_51 ?_
        refine gx_iload h 2 rfl dX7_whose_52 ?_
        refine gx_iload h 8 rfl dX7_whose_54 ?_
        refine gm_c_isField h rfl ⟨Nat.le_of_ble_eq_true rfl, Nat.le_of_ble_eq_true rfl⟩ (Nat.le_of_ble_eq_true rfl) dX7_whose_56 (gx_C.mono k ?_)
        rintro _ X56 ⟨r56, rfl, k⟩
        refine ⟨r56, rfl, ?_⟩
        refine gx_if_eq (tgt := 64) h (by decide) dX7_whose_59 (fun c => ?_) (fun c => ?_)
        · replace k := k.1 c
          refine gx_aload_n h 3 rfl dX7_whose_64 ?_
          refine gx_iload_n h 6 rfl dX7_whose_65 ?_
          refine gx_iload h 0 rfl dX7_whose_66 ?_
          refine gx_iload_n h 4 rfl dX7_whose_68 ?_
          refine gx_iload h 2 rfl dX7_whose_69 ?_
          refine gx_iload h 8 rfl dX7_whose_71 ?_
          refine gm_c_isField h rfl ⟨Nat.le_of_ble_eq_true rfl, Nat.le_of_ble_eq_true rfl⟩ (Nat.le_of_ble_eq_true rfl) dX7_whose_73 (gx_C.mono k ?_)
          rintro _ X73 ⟨r73, rfl, k⟩
          refine ⟨r73, rfl, ?_⟩
          refine gx_if_ne (tgt := 94) h (by decide) dX7_whose_76 (fun c => ?_) (fun c => ?_)
          · replace k := k.2 c
            exact gx_sub [5] rfl k
          · replace k := k.1 c
            refine gx_aload_n h 3 rfl dX7_whose_79 ?_
            refine gx_iload_n h 5 rfl dX7_whose_80 ?_
            refine gx_iload h 1 rfl dX7_whose_81 ?_
            refine gx_iload_n h 6 rfl dX7_whose_83 ?_
            refine gx_iload h 0 rfl dX7_whose_84 ?_
            refine gx_iload h 8 rfl dX7_whose_86 ?_
            refine gm_c_isField h rfl ⟨Nat.le_of_ble_eq_true rfl, Nat.le_of_ble_eq_true rfl⟩ (Nat.le_of_ble_eq_true rfl) dX7_whose_88 (gx_C.mono k ?_)
            rintro _ X88 ⟨r88, rfl, k⟩
            refine ⟨r88, rfl, ?_⟩
            refine gx_if_eq (tgt := 96) h (by decide) dX7_whose_91 (fun c => ?_) (fun c => ?_)
            · replace k := k.1 c
              refine gx_aload_n h 3 rfl dX7_whose_96 ?_
              refine gx_iconst (v := 1) h dX7_whose_97 (by decide) ?_
              refine gm_put33 h rfl rfl rfl dX7_whose_98 ?_
              generalize hz : gm_pI X88 33 1 = X98
              replace k := k X98 hz.symm
              refine gx_iload_n h 4 rfl dX7_whose_101 ?_
              exact gx_iret h rfl dX7_whose_102 ⟨_, rfl, k⟩
            · replace k := k.2 c
              exact gx_sub [5] rfl k
        · replace k := k.2 c
          refine gx_iload_n h 6 rfl dX7_whose_62 ?_
          exact gx_iret h rfl dX7_whose_63 ⟨_, rfl, k⟩
theorem bm_whose_94 {θ : gm_T} {K : gx_K} {P : Int32 → gm_X → Prop} {X : gm_X} {x2 : Int32} (h : gm_K θ K mX7_whose) (k : P x2 X) : gm_G θ K mX7_whose (gm_Pi P) 94 [(2, .int x2)] [] X := by
  refine gx_iload_n h 0 rfl dX7_whose_94 ?_
  exact gx_iret h rfl dX7_whose_95 ⟨_, rfl, k⟩
theorem bm_whose_103 {θ : gm_T} {K : gx_K} {P : Int32 → gm_X → Prop} {X : gm_X} {x2 x3 x5 x7 x8 : Int32} (h : gm_K θ K mX7_whose) (k : ((x7 < 0 → gm_G θ K mX7_whose (gm_Pi P) 139 [(2, .int x2), (3, .int x3), (7, .int x7), (8, .int x8)] [] X) ∧ (¬ x7 < 0 → ((x8 < 0 → gm_G θ K mX7_whose (gm_Pi P) 139 [(2, .int x2), (3, .int x3), (7, .int x7), (8, .int x8)] [] X) ∧ (¬ x8 < 0 → gx_C (gm_O θ) mX7_isField [.ref (gm_am θ), .int x2, .int x7, .int x3, .int x8, .int x5] X (gm_Pi (fun r123 X123 => ((r123 = 0 → ∀ X134, X134 = gm_pI X123 33 1 → P x2 X134) ∧ (¬ r123 = 0 → ∀ X134, X134 = gm_pI X123 33 0 → P x2 X134))))))))) : gm_G θ K mX7_whose (gm_Pi P) 103 [(0, .ref (gm_am θ)), (2, .int x2), (3, .int x3), (5, .int x5), (7, .int x7), (8, .int x8)] [] X := by
  refine gx_iload h 4 rfl dX7_whose_103 ?_
  refine gx_if_lt (tgt := 139) h (by decide) dX7_whose_105 (fun c => ?_) (fun c => ?_)
  · replace k := k.1 c
    exact gx_sub [1, 2, 4, 5] rfl k
  · replace k := k.2 c
    refine gx_iload h 5 rfl dX7_whose_108 ?_
    refine gx_if_lt (tgt := 139) h (by decide) dX7_whose_110 (fun c => ?_) (fun c => ?_)
    · replace k := k.1 c
      exact gx_sub [1, 2, 4, 5] rfl k
    · replace k := k.2 c
      refine gx_aload_n h 0 rfl dX7_whose_113 ?_
      refine gx_aload_n h 0 rfl dX7_whose_114 ?_
      refine gx_iload_n h 1 rfl dX7_whose_115 ?_
      refine gx_iload h 4 rfl dX7_whose_116 ?_
      refine gx_iload_n h 2 rfl dX7_whose_118 ?_
      refine gx_iload h 5 rfl dX7_whose_119 ?_
      refine gx_iload h 3 rfl dX7_whose_121 ?_
      refine gm_c_isField h rfl ⟨Nat.le_of_ble_eq_true rfl, Nat.le_of_ble_eq_true rfl⟩ (Nat.le_of_ble_eq_true rfl) dX7_whose_123 (gx_C.mono k ?_)
      rintro _ X123 ⟨r123, rfl, k⟩
      refine ⟨r123, rfl, ?_⟩
      refine gx_if_ne (tgt := 133) h (by decide) dX7_whose_126 (fun c => ?_) (fun c => ?_)
      · replace k := k.2 c
        refine gx_iconst (v := 0) h dX7_whose_133 (by decide) ?_
        refine gm_put33 h rfl rfl rfl dX7_whose_134 ?_
        generalize hz : gm_pI X123 33 0 = X134
        replace k := k X134 hz.symm
        refine gx_iload_n h 1 rfl dX7_whose_137 ?_
        exact gx_iret h rfl dX7_whose_138 ⟨_, rfl, k⟩
      · replace k := k.1 c
        refine gx_iconst (v := 1) h dX7_whose_129 (by decide) ?_
        refine gx_goto (tgt := 134) h (by decide) dX7_whose_130 ?_
        refine gm_put33 h rfl rfl rfl dX7_whose_134 ?_
        generalize hz : gm_pI X123 33 1 = X134
        replace k := k X134 hz.symm
        refine gx_iload_n h 1 rfl dX7_whose_137 ?_
        exact gx_iret h rfl dX7_whose_138 ⟨_, rfl, k⟩
theorem bm_whose_139 {θ : gm_T} {K : gx_K} {P : Int32 → gm_X → Prop} {X : gm_X} {x2 x3 x7 x8 : Int32} (h : gm_K θ K mX7_whose) (k : ((x7 < 0 → ((x8 < 0 → P (-1) X) ∧ (¬ x8 < 0 → P x3 X))) ∧ (¬ x7 < 0 → P x2 X))) : gm_G θ K mX7_whose (gm_Pi P) 139 [(2, .int x2), (3, .int x3), (7, .int x7), (8, .int x8)] [] X := by
  refine gx_iload h 2 rfl dX7_whose_139 ?_
  refine gx_if_lt (tgt := 148) h (by decide) dX7_whose_141 (fun c => ?_) (fun c => ?_)
  · replace k := k.1 c
    refine gx_iload h 3 rfl dX7_whose_148 ?_
    refine gx_if_lt (tgt := 157) h (by decide) dX7_whose_150 (fun c => ?_) (fun c => ?_)
    · replace k := k.1 c
      refine gx_iconst (v := (-1)) h dX7_whose_157 (by decide) ?_
      exact gx_iret h rfl dX7_whose_158 ⟨_, rfl, k⟩
    · replace k := k.2 c
      refine gx_iload_n h 1 rfl dX7_whose_153 ?_
      refine gx_goto (tgt := 158) h (by decide) dX7_whose_154 ?_
      exact gx_iret h rfl dX7_whose_158 ⟨_, rfl, k⟩
  · replace k := k.2 c
    refine gx_iload_n h 0 rfl dX7_whose_144 ?_
    refine gx_goto (tgt := 158) h (by decide) dX7_whose_145 ?_
    exact gx_iret h rfl dX7_whose_158 ⟨_, rfl, k⟩
