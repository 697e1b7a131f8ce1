set_option maxRecDepth 100000
/-! price -/
theorem em_price {θ : gm_T} {P : Int32 → gm_X → Prop} {X : gm_X} {x1 : Int32} {x2 : Int32} (body : ∀ K, gm_K θ K mX7_price → gm_G θ K mX7_price (gm_Pi P) 0 [(0, .ref (gm_am θ)), (1, .int x1), (2, .int x2)] [] X) : gx_C (gm_O θ) mX7_price [.ref (gm_am θ), .int x1, .int x2] X (gm_Pi P) :=
  gx_C.intro (gm_z θ) (by decide) (Nat.le_of_ble_eq_true rfl) body
theorem bm_price_0 {θ : gm_T} {K : gx_K} {P : Int32 → gm_X → Prop} {X : gm_X} {x1 x2 : Int32} (h : gm_K θ K mX7_price) (k : gx_C (gm_O θ) mX7_in [.int x1, .int 0, .int 3] X (gm_Pi (fun r3 X3 => ((r3 = 0 → gm_G θ K mX7_price (gm_Pi P) 20 [(0, .ref (gm_am θ))] [] X3) ∧ (¬ r3 = 0 → gx_C (gm_O θ) mX7_in [.int x2, .int 0, .int 1000] X3 (gm_Pi (fun r14 X14 => ((r14 = 0 → gm_G θ K mX7_price (gm_Pi P) 20 [(0, .ref (gm_am θ))] [] X14) ∧ (¬ r14 = 0 → vp_in x1 4 ∧ vp_in x1 4 ∧ ∀ X39, X39 = gm_pA X14 7 x1.toNatClampNeg x2 → P (X14.2 7 x1.toNatClampNeg) X39))))))))) : gm_G θ K mX7_price (gm_Pi P) 0 [(0, .ref (gm_am θ)), (1, .int x1), (2, .int x2)] [] X := by
  refine gx_iload_n h 1 rfl dX7_price_0 ?_
  refine gx_iconst (v := 0) h dX7_price_1 (by decide) ?_
  refine gx_iconst (v := 3) h dX7_price_2 (by decide) ?_
  refine gm_c_in h rfl ⟨Nat.le_of_ble_eq_true rfl, Nat.le_of_ble_eq_true rfl⟩ (Nat.le_of_ble_eq_true rfl) dX7_price_3 (gx_C.mono k ?_)
  rintro _ X3 ⟨r3, rfl, k⟩
  refine ⟨r3, rfl, ?_⟩
  refine gx_if_eq (tgt := 20) h (by decide) dX7_price_6 (fun c => ?_) (fun c => ?_)
  · replace k := k.1 c
    exact gx_sub [0] rfl k
  · replace k := k.2 c
    refine gx_iload_n h 2 rfl dX7_price_9 ?_
    refine gx_iconst (v := 0) h dX7_price_10 (by decide) ?_
    refine gx_sipush (v := 1000) h dX7_price_11 (by decide) ?_
    refine gm_c_in h rfl ⟨Nat.le_of_ble_eq_true rfl, Nat.le_of_ble_eq_true rfl⟩ (Nat.le_of_ble_eq_true rfl) dX7_price_14 (gx_C.mono k ?_)
    rintro _ X14 ⟨r14, rfl, k⟩
    refine ⟨r14, rfl, ?_⟩
    refine gx_if_ne (tgt := 26) h (by decide) dX7_price_17 (fun c => ?_) (fun c => ?_)
    · replace k := k.2 c
      refine gx_aload_n h 0 rfl dX7_price_26 ?_
      refine gm_get7 h rfl dX7_price_27 ?_
      refine gx_iload_n h 1 rfl dX7_price_30 ?_
      refine gm_ld7 h k.1 dX7_price_31 ?_
      replace k := k.2
      refine gx_istore_n (L' := [(3, .int (X14.2 7 x1.toNatClampNeg)), (0, .ref (gm_am θ)), (1, .int x1), (2, .int x2)]) h (by decide) rfl dX7_price_32 ?_
      refine gx_aload_n h 1 rfl dX7_price_33 ?_
      refine gm_get7 h rfl dX7_price_34 ?_
      refine gx_iload_n h 2 rfl dX7_price_37 ?_
      refine gx_iload_n h 3 rfl dX7_price_38 ?_
      refine gm_st7 h k.1 dX7_price_39 ?_
      generalize hz : gm_pA X14 7 x1.toNatClampNeg x2 = X39
      replace k := k.2 X39 hz.symm
      refine gx_iload_n h 0 rfl dX7_price_40 ?_
      exact gx_iret h rfl dX7_price_41 ⟨_, rfl, k⟩
    · replace k := k.1 c
      exact gx_sub [0] rfl k
theorem bm_price_20 {θ : gm_T} {K : gx_K} {P : Int32 → gm_X → Prop} {X : gm_X} (h : gm_K θ K mX7_price) (k : gx_C (gm_O θ) mX7_found0 [.ref (gm_am θ), .int (-1)] X (gm_Pi (fun r22 X22 => P r22 X22))) : gm_G θ K mX7_price (gm_Pi P) 20 [(0, .ref (gm_am θ))] [] X := by
  refine gx_aload_n h 0 rfl dX7_price_20 ?_
  refine gx_iconst (v := (-1)) h dX7_price_21 (by decide) ?_
  refine gm_c_found0 h rfl ⟨Nat.le_of_ble_eq_true rfl, Nat.le_of_ble_eq_true rfl⟩ (Nat.le_of_ble_eq_true rfl) dX7_price_22 (gx_C.mono k ?_)
  rintro _ X22 ⟨r22, rfl, k⟩
  refine ⟨r22, rfl, ?_⟩
  exact gx_iret h rfl dX7_price_25 ⟨_, rfl, k⟩
/-! distance -/
theorem em_distance {θ : gm_T} {P : Int32 → gm_X → Prop} {X : gm_X} {x1 : Int32} {x2 : Int32} (body : ∀ K, gm_K θ K mX7_distance → gm_G θ K mX7_distance (gm_Pi P) 0 [(0, .ref (gm_am θ)), (1, .int x1), (2, .int x2)] [] X) : gx_C (gm_O θ) mX7_distance [.ref (gm_am θ), .int x1, .int x2] X (gm_Pi P) :=
  gx_C.intro (gm_z θ) (by decide) (Nat.le_of_ble_eq_true rfl) body
theorem bm_distance_0 {θ : gm_T} {K : gx_K} {P : Int32 → gm_X → Prop} {X : gm_X} {x1 x2 : Int32} (h : gm_K θ K mX7_distance) (k : gx_C (gm_O θ) mX7_lacks [.ref (gm_am θ), .int x1] X (gm_Pi (fun r2 X2 => ((0 ≤ r2 → gx_C (gm_O θ) mX7_lacks [.ref (gm_am θ), .int x2] X2 (gm_Pi (fun r18 X18 => ((0 ≤ r18 → gx_C (gm_O θ) mX7_reckon [.ref (gm_am θ), .int x1, .int x2] X18 (gm_Pv (fun X35 => vp_in x1 11 ∧ vp_in x2 11 ∧ gx_C (gm_O θ) mX7_cell [.int 0, .int (X35.2 1 x1.toNatClampNeg), .int 0, .int (X35.2 1 x2.toNatClampNeg)] X35 (gm_Pi (fun r56 X56 => vp_in r56 923521 ∧ P (X56.2 13 r56.toNatClampNeg) X56))))) ∧ (¬ 0 ≤ r18 → gx_C (gm_O θ) mX7_found0 [.ref (gm_am θ), .int r18] X18 (gm_Pi (fun r28 X28 => P r28 X28))))))) ∧ (¬ 0 ≤ r2 → gx_C (gm_O θ) mX7_found0 [.ref (gm_am θ), .int r2] X2 (gm_Pi (fun r12 X12 => P r12 X12))))))) : gm_G θ K mX7_distance (gm_Pi P) 0 [(0, .ref (gm_am θ)), (1, .int x1), (2, .int x2)] [] X := by
  refine gx_aload_n h 0 rfl dX7_distance_0 ?_
  refine gx_iload_n h 1 rfl dX7_distance_1 ?_
  refine gm_c_lacks h rfl ⟨Nat.le_of_ble_eq_true rfl, Nat.le_of_ble_eq_true rfl⟩ (Nat.le_of_ble_eq_true rfl) dX7_distance_2 (gx_C.mono k ?_)
  rintro _ X2 ⟨r2, rfl, k⟩
  refine ⟨r2, rfl, ?_⟩
  refine gx_istore_n (L' := [(3, .int r2), (0, .ref (gm_am θ)), (1, .int x1), (2, .int x2)]) h (by decide) rfl dX7_distance_5 ?_
  refine gx_iload_n h 0 rfl dX7_distance_6 ?_
  refine gx_if_ge (tgt := 16) h (by decide) dX7_distance_7 (fun c => ?_) (fun c => ?_)
  · replace k := k.1 c
    refine gx_aload_n h 1 rfl dX7_distance_16 ?_
    refine gx_iload_n h 3 rfl dX7_distance_17 ?_
    refine gm_c_lacks h rfl ⟨Nat.le_of_ble_eq_true rfl, Nat.le_of_ble_eq_true rfl⟩ (Nat.le_of_ble_eq_true rfl) dX7_distance_18 (gx_C.mono k ?_)
    rintro _ X18 ⟨r18, rfl, k⟩
    refine ⟨r18, rfl, ?_⟩
    refine gx_istore_n (L' := [(3, .int r18), (0, .ref (gm_am θ)), (1, .int x1), (2, .int x2)]) h (by decide) rfl dX7_distance_21 ?_
    refine gx_iload_n h 0 rfl dX7_distance_22 ?_
    refine gx_if_ge (tgt := 32) h (by decide) dX7_distance_23 (fun c => ?_) (fun c => ?_)
    · replace k := k.1 c
      refine gx_aload_n h 1 rfl dX7_distance_32 ?_
      refine gx_iload_n h 2 rfl dX7_distance_33 ?_
      refine gx_iload_n h 3 rfl dX7_distance_34 ?_
      refine gm_c_reckon h rfl ⟨Nat.le_of_ble_eq_true rfl, Nat.le_of_ble_eq_true rfl⟩ (Nat.le_of_ble_eq_true rfl) dX7_distance_35 (gx_C.mono k ?_)
      rintro _ X35 ⟨rfl, k⟩
      refine ⟨rfl, ?_⟩
      refine gx_aload_n h 1 rfl dX7_distance_38 ?_
      refine gm_get13 h rfl dX7_distance_39 ?_
      refine gx_iconst (v := 0) h dX7_distance_42 (by decide) ?_
      refine gx_aload_n h 1 rfl dX7_distance_43 ?_
      refine gm_get1 h rfl dX7_distance_44 ?_
      refine gx_iload_n h 2 rfl dX7_distance_47 ?_
      refine gm_ld1 h k.1 dX7_distance_48 ?_
      replace k := k.2
      refine gx_iconst (v := 0) h dX7_distance_49 (by decide) ?_
      refine gx_aload_n h 1 rfl dX7_distance_50 ?_
      refine gm_get1 h rfl dX7_distance_51 ?_
      refine gx_iload_n h 3 rfl dX7_distance_54 ?_
      refine gm_ld1 h k.1 dX7_distance_55 ?_
      replace k := k.2
      refine gm_c_cell h rfl ⟨Nat.le_of_ble_eq_true rfl, Nat.le_of_ble_eq_true rfl⟩ (Nat.le_of_ble_eq_true rfl) dX7_distance_56 (gx_C.mono k ?_)
      rintro _ X56 ⟨r56, rfl, k⟩
      refine ⟨r56, rfl, ?_⟩
      refine gm_ld13 h k.1 dX7_distance_59 ?_
      replace k := k.2
      exact gx_iret h rfl dX7_distance_60 ⟨_, rfl, k⟩
    · replace k := k.2 c
      refine gx_aload_n h 1 rfl dX7_distance_26 ?_
      refine gx_iload_n h 0 rfl dX7_distance_27 ?_
      refine gm_c_found0 h rfl ⟨Nat.le_of_ble_eq_true rfl, Nat.le_of_ble_eq_true rfl⟩ (Nat.le_of_ble_eq_true rfl) dX7_distance_28 (gx_C.mono k ?_)
      rintro _ X28 ⟨r28, rfl, k⟩
      refine ⟨r28, rfl, ?_⟩
      exact gx_iret h rfl dX7_distance_31 ⟨_, rfl, k⟩
  · replace k := k.2 c
    refine gx_aload_n h 1 rfl dX7_distance_10 ?_
    refine gx_iload_n h 0 rfl dX7_distance_11 ?_
    refine gm_c_found0 h rfl ⟨Nat.le_of_ble_eq_true rfl, Nat.le_of_ble_eq_true rfl⟩ (Nat.le_of_ble_eq_true rfl) dX7_distance_12 (gx_C.mono k ?_)
    rintro _ X12 ⟨r12, rfl, k⟩
    refine ⟨r12, rfl, ?_⟩
    exact gx_iret h rfl dX7_distance_15 ⟨_, rfl, k⟩
/-! reckon -/
theorem em_reckon {θ : gm_T} {P : gm_X → Prop} {X : gm_X} {x1 : Int32} {x2 : Int32} (body : ∀ K, gm_K θ K mX7_reckon → gm_G θ K mX7_reckon (gm_Pv P) 0 [(0, .ref (gm_am θ)), (1, .int x1), (2, .int x2)] [] X) : gx_C (gm_O θ) mX7_reckon [.ref (gm_am θ), .int x1, .int x2] X (gm_Pv P) :=
  gx_C.intro (gm_z θ) (by decide) (Nat.le_of_ble_eq_true rfl) body
theorem bm_reckon_0 {θ : gm_T} {K : gx_K} {P : gm_X → Prop} {X : gm_X} {x1 x2 : Int32} (h : gm_K θ K mX7_reckon) (k : gx_C (gm_O θ) mX7_lay [.ref (gm_am θ), .int x1, .int 0] X (gm_Pv (fun X3 => gx_C (gm_O θ) mX7_lay [.ref (gm_am θ), .int x2, .int 1] X3 (gm_Pv (fun X9 => vp_in x1 11 ∧ gm_G θ K mX7_reckon (gm_Pv P) 19 [(0, .ref (gm_am θ)), (1, .int x1), (2, .int x2), (3, .int (X9.2 1 x1.toNatClampNeg))] [] X9))))) : gm_G θ K mX7_reckon (gm_Pv P) 0 [(0, .ref (gm_am θ)), (1, .int x1), (2, .int x2)] [] X := by
  refine gx_aload_n h 0 rfl dX7_reckon_0 ?_
  refine gx_iload_n h 1 rfl dX7_reckon_1 ?_
  refine gx_iconst (v := 0) h dX7_reckon_2 (by decide) ?_
  refine gm_c_lay h rfl ⟨Nat.le_of_ble_eq_true rfl, Nat.le_of_ble_eq_true rfl⟩ (Nat.le_of_ble_eq_true rfl) dX7_reckon_3 (gx_C.mono k ?_)
  rintro _ X3 ⟨rfl, k⟩
  refine ⟨rfl, ?_⟩
  refine gx_aload_n h 0 rfl dX7_reckon_6 ?_
  refine gx_iload_n h 2 rfl dX7_reckon_7 ?_
  refine gx_iconst (v := 1) h dX7_reckon_8 (by decide) ?_
  refine gm_c_lay h rfl ⟨Nat.le_of_ble_eq_true rfl, Nat.le_of_ble_eq_true rfl⟩ (Nat.le_of_ble_eq_true rfl) dX7_reckon_9 (gx_C.mono k ?_)
  rintro _ X9 ⟨rfl, k⟩
  refine ⟨rfl, ?_⟩
  refine gx_aload_n h 0 rfl dX7_reckon_12 ?_
  refine gm_get1 h rfl dX7_reckon_13 ?_
  refine gx_iload_n h 1 rfl dX7_reckon_16 ?_
  refine gm_ld1 h k.1 dX7_reckon_17 ?_
  replace k := k.2
  refine gx_istore_n (L' := [(3, .int (X9.2 1 x1.toNatClampNeg)), (0, .ref (gm_am θ)), (1, .int x1), (2, .int x2)]) h (by decide) rfl dX7_reckon_18 ?_
  exact gx_sub [1, 2, 3, 0] rfl k
theorem bm_reckon_19 {θ : gm_T} {K : gx_K} {P : gm_X → Prop} {X : gm_X} {x1 x2 x3 : Int32} (h : gm_K θ K mX7_reckon) (k : ((x3 < 0 → P X) ∧ (¬ x3 < 0 → vp_in x2 11 ∧ gm_G θ K mX7_reckon (gm_Pv P) 31 [(0, .ref (gm_am θ)), (1, .int x1), (2, .int x2), (3, .int x3), (4, .int (X.2 1 x2.toNatClampNeg))] [] X))) : gm_G θ K mX7_reckon (gm_Pv P) 19 [(0, .ref (gm_am θ)), (1, .int x1), (2, .int x2), (3, .int x3)] [] X := by
  refine gx_iload_n h 3 rfl dX7_reckon_19 ?_
  refine gx_if_lt (tgt := 247) h (by decide) dX7_reckon_20 (fun c => ?_) (fun c => ?_)
  · replace k := k.1 c
    exact gx_vret h rfl dX7_reckon_247 ⟨rfl, k⟩
  · replace k := k.2 c
    refine gx_aload_n h 0 rfl dX7_reckon_23 ?_
    refine gm_get1 h rfl dX7_reckon_24 ?_
    refine gx_iload_n h 2 rfl dX7_reckon_27 ?_
    refine gm_ld1 h k.1 dX7_reckon_28 ?_
    replace k := k.2
    refine gx_istore (L' := [(4, .int (X.2 1 x2.toNatClampNeg)), (0, .ref (gm_am θ)), (1, .int x1), (2, .int x2), (3, .int x3)]) h (by decide) rfl dX7_reckon_29 ?_
    exact gx_sub [1, 2, 3, 4, 0] rfl k
theorem bm_reckon_31 {θ : gm_T} {K : gx_K} {P : gm_X → Prop} {X : gm_X} {x1 x2 x3 x4 : Int32} (h : gm_K θ K mX7_reckon) (k : ((x4 < 0 → gm_G θ K mX7_reckon (gm_Pv P) 19 [(0, .ref (gm_am θ)), (1, .int x1), (2, .int x2), (3, .int (x3 + (-1)))] [] X) ∧ (¬ x4 < 0 → gm_G θ K mX7_reckon (gm_Pv P) 39 [(0, .ref (gm_am θ)), (1, .int x1), (2, .int x2), (3, .int x3), (4, .int x4), (5, .int 0)] [] X))) : gm_G θ K mX7_reckon (gm_Pv P) 31 [(0, .ref (gm_am θ)), (1, .int x1), (2, .int x2), (3, .int x3), (4, .int x4)] [] X := by
  refine gx_iload h 4 rfl dX7_reckon_31 ?_
  refine gx_if_lt (tgt := 241) h (by decide) dX7_reckon_33 (fun c => ?_) (fun c => ?_)
  · replace k := k.1 c
    refine gx_iinc (v := x3 + (-1)) (L' := [(3, .int (x3 + (-1))), (0, .ref (gm_am θ)), (1, .int x1), (2, .int x2), (4, .int x4)]) h 3 rfl (congrArg (fun q => x3 + q) (by decide)) (by decide) rfl dX7_reckon_241 ?_
    refine gx_goto (tgt := 19) h (by decide) dX7_reckon_244 ?_
    exact gx_sub [1, 2, 3, 0] rfl k
  · replace k := k.2 c
    refine gx_iconst (v := 0) h dX7_reckon_36 (by decide) ?_
    refine gx_istore (L' := [(5, .int 0), (0, .ref (gm_am θ)), (1, .int x1), (2, .int x2), (3, .int x3), (4, .int x4)]) h (by decide) rfl dX7_reckon_37 ?_
    exact gx_sub [1, 2, 3, 4, 5, 0] rfl k
theorem bm_reckon_39 {θ : gm_T} {K : gx_K} {P : gm_X → Prop} {X : gm_X} {x1 x2 x3 x4 x5 : Int32} (h : gm_K θ K mX7_reckon) (k : vp_in x1 11 ∧ (((X.2 1 x1.toNatClampNeg) < (x3 + x5) → gm_G θ K mX7_reckon (gm_Pv P) 31 [(0, .ref (gm_am θ)), (1, .int x1), (2, .int x2), (3, .int x3), (4, .int (x4 + (-1)))] [] X) ∧ (¬ (X.2 1 x1.toNatClampNeg) < (x3 + x5) → gm_G θ K mX7_reckon (gm_Pv P) 55 [(0, .ref (gm_am θ)), (1, .int x1), (2, .int x2), (3, .int x3), (4, .int x4), (5, .int x5), (6, .int 0)] [] X))) : gm_G θ K mX7_reckon (gm_Pv P) 39 [(0, .ref (gm_am θ)), (1, .int x1), (2, .int x2), (3, .int x3), (4, .int x4), (5, .int x5)] [] X := by
  refine gx_iload_n h 3 rfl dX7_reckon_39 ?_
  refine gx_iload h 5 rfl dX7_reckon_40 ?_
  refine gx_iadd h dX7_reckon_42 ?_
  refine gx_aload_n h 0 rfl dX7_reckon_43 ?_
  refine gm_get1 h rfl dX7_reckon_44 ?_
  refine gx_iload_n h 1 rfl dX7_reckon_47 ?_
  refine gm_ld1 h k.1 dX7_reckon_48 ?_
  replace k := k.2
  refine gx_icmp_gt (tgt := 235) h (by decide) dX7_reckon_49 (fun c => ?_) (fun c => ?_)
  · replace k := k.1 c
    refine gx_iinc (v := x4 + (-1)) (L' := [(4, .int (x4 + (-1))), (0, .ref (gm_am θ)), (1, .int x1), (2, .int x2), (3, .int x3), (5, .int x5)]) h 4 rfl (congrArg (fun q => x4 + q) (by decide)) (by decide) rfl dX7_reckon_235 ?_
    refine gx_goto (tgt := 31) h (by decide) dX7_reckon_238 ?_
    exact gx_sub [1, 2, 3, 4, 0] rfl k
  · replace k := k.2 c
    refine gx_iconst (v := 0) h dX7_reckon_52 (by decide) ?_
    refine gx_istore (L' := [(6, .int 0), (0, .ref (gm_am θ)), (1, .int x1), (2, .int x2), (3, .int x3), (4, .int x4), (5, .int x5)]) h (by decide) rfl dX7_reckon_53 ?_
    exact gx_sub [1, 2, 3, 4, 5, 6, 0] rfl k
theorem bm_reckon_55 {θ : gm_T} {K : gx_K} {P : gm_X → Prop} {X : gm_X} {x1 x2 x3 x4 x5 x6 : Int32} (h : gm_K θ K mX7_reckon) (k : vp_in x2 11 ∧ (((X.2 1 x2.toNatClampNeg) < (x4 + x6) → gm_G θ K mX7_reckon (gm_Pv P) 39 [(0, .ref (gm_am θ)), (1, .int x1), (2, .int x2), (3, .int x3), (4, .int x4), (5, .int (x5 + 1))] [] X) ∧ (¬ (X.2 1 x2.toNatClampNeg) < (x4 + x6) → ((x5 = 0 → ((x6 = 0 → gm_G θ K mX7_reckon (gm_Pv P) 102 [(0, .ref (gm_am θ)), (1, .int x1), (2, .int x2), (3, .int x3), (4, .int x4), (5, .int x5), (6, .int x6), (7, .int ((x3 + x5) - 1)), (8, .int ((x4 + x6) - 1))] [.int 0] X) ∧ (¬ x6 = 0 → gm_G θ K mX7_reckon (gm_Pv P) 100 [(0, .ref (gm_am θ)), (1, .int x1), (2, .int x2), (3, .int x3), (4, .int x4), (5, .int x5), (6, .int x6), (7, .int ((x3 + x5) - 1)), (8, .int ((x4 + x6) - 1))] [] X))) ∧ (¬ x5 = 0 → gm_G θ K mX7_reckon (gm_Pv P) 100 [(0, .ref (gm_am θ)), (1, .int x1), (2, .int x2), (3, .int x3), (4, .int x4), (5, .int x5), (6, .int x6), (7, .int ((x3 + x5) - 1)), (8, .int ((x4 + x6) - 1))] [] X))))) : gm_G θ K mX7_reckon (gm_Pv P) 55 [(0, .ref (gm_am θ)), (1, .int x1), (2, .int x2), (3, .int x3), (4, .int x4), (5, .int x5), (6, .int x6)] [] X := by
  refine gx_iload h 4 rfl dX7_reckon_55 ?_
  refine gx_iload h 6 rfl dX7_reckon_57 ?_
  refine gx_iadd h dX7_reckon_59 ?_
  refine gx_aload_n h 0 rfl dX7_reckon_60 ?_
  refine gm_get1 h rfl dX7_reckon_61 ?_
  refine gx_iload_n h 2 rfl dX7_reckon_64 ?_
  refine gm_ld1 h k.1 dX7_reckon_65 ?_
  replace k := k.2
  refine gx_icmp_gt (tgt := 229) h (by decide) dX7_reckon_66 (fun c => ?_) (fun c => ?_)
  · replace k := k.1 c
    refine gx_iinc (v := x5 + 1) (L' := [(5, .int (x5 + 1)), (0, .ref (gm_am θ)), (1, .int x1), (2, .int x2), (3, .int x3), (4, .int x4), (6, .int x6)]) h 5 rfl rfl (by decide) rfl dX7_reckon_229 ?_
    refine gx_goto (tgt := 39) h (by decide) dX7_reckon_232 ?_
    exact gx_sub [1, 2, 3, 4, 5, 0] rfl k
  · replace k := k.2 c
    refine gx_iload_n h 3 rfl dX7_reckon_69 ?_
    refine gx_iload h 5 rfl dX7_reckon_70 ?_
    refine gx_iadd h dX7_reckon_72 ?_
    refine gx_iconst (v := 1) h dX7_reckon_73 (by decide) ?_
    refine gx_isub h dX7_reckon_74 ?_
    refine gx_istore (L' := [(7, .int ((x3 + x5) - 1)), (0, .ref (gm_am θ)), (1, .int x1), (2, .int x2), (3, .int x3), (4, .int x4), (5, .int x5), (6, .int x6)]) h (by decide) rfl dX7_reckon_75 ?_
    refine gx_iload h 5 rfl dX7_reckon_77 ?_
    refine gx_iload h 7 rfl dX7_reckon_79 ?_
    refine gx_iadd h dX7_reckon_81 ?_
    refine gx_iconst (v := 1) h dX7_reckon_82 (by decide) ?_
    refine gx_isub h dX7_reckon_83 ?_
    refine gx_istore (L' := [(8, .int ((x4 + x6) - 1)), (7, .int ((x3 + x5) - 1)), (0, .ref (gm_am θ)), (1, .int x1), (2, .int x2), (3, .int x3), (4, .int x4), (5, .int x5), (6, .int x6)]) h (by decide) rfl dX7_reckon_84 ?_
    refine gx_iload h 7 rfl dX7_reckon_86 ?_
    refine gx_if_ne (tgt := 100) h (by decide) dX7_reckon_88 (fun c => ?_) (fun c => ?_)
    · replace k := k.2 c
      exact gx_sub [2, 3, 4, 5, 6, 7, 8, 1, 0] rfl k
    · replace k := k.1 c
      refine gx_iload h 8 rfl dX7_reckon_91 ?_
      refine gx_if_ne (tgt := 100) h (by decide) dX7_reckon_93 (fun c => ?_) (fun c => ?_)
      · replace k := k.2 c
        exact gx_sub [2, 3, 4, 5, 6, 7, 8, 1, 0] rfl k
      · replace k := k.1 c
        refine gx_iconst (v := 0) h dX7_reckon_96 (by decide) ?_
        refine gx_goto (tgt := 102) h (by decide) dX7_reckon_97 ?_
        exact gx_sub [2, 3, 4, 5, 6, 7, 8, 1, 0] rfl k
theorem bm_reckon_100 {θ : gm_T} {K : gx_K} {P : gm_X → Prop} {X : gm_X} {x1 x2 x3 x4 x5 x6 x7 x8 : Int32} (h : gm_K θ K mX7_reckon) (k : gm_G θ K mX7_reckon (gm_Pv P) 102 [(0, .ref (gm_am θ)), (1, .int x1), (2, .int x2), (3, .int x3), (4, .int x4), (5, .int x5), (6, .int x6), (7, .int x7), (8, .int x8)] [.int 1000000000] X) : gm_G θ K mX7_reckon (gm_Pv P) 100 [(0, .ref (gm_am θ)), (1, .int x1), (2, .int x2), (3, .int x3), (4, .int x4), (5, .int x5), (6, .int x6), (7, .int x7), (8, .int x8)] [] X := by
  refine gx_ldc (v := 1000000000) h q1535 dX7_reckon_100 ?_
  exact k
theorem bm_reckon_102 {θ : gm_T} {K : gx_K} {P : gm_X → Prop} {X : gm_X} {x1 x2 x3 x4 x5 x6 x7 x8 s0 : Int32} (h : gm_K θ K mX7_reckon) (k : ((x5 ≤ 0 → gm_G θ K mX7_reckon (gm_Pv P) 140 [(0, .ref (gm_am θ)), (1, .int x1), (2, .int x2), (3, .int x3), (4, .int x4), (5, .int x5), (6, .int x6), (7, .int x7), (8, .int x8), (9, .int s0)] [] X) ∧ (¬ x5 ≤ 0 → gx_C (gm_O θ) mX7_cell [.int x3, .int (x5 - 1), .int x4, .int x6] X (gm_Pi (fun r124 X124 => vp_in r124 923521 ∧ vp_in 3 4 ∧ gx_C (gm_O θ) mX7_lesser [.int s0, .int ((X124.2 13 r124.toNatClampNeg) + (X124.2 7 (3 : Int32).toNatClampNeg))] X124 (gm_Pi (fun r135 X135 => gm_G θ K mX7_reckon (gm_Pv P) 140 [(0, .ref (gm_am θ)), (1, .int x1), (2, .int x2), (3, .int x3), (4, .int x4), (5, .int x5), (6, .int x6), (7, .int x7), (8, .int x8), (9, .int r135)] [] X135))))))) : gm_G θ K mX7_reckon (gm_Pv P) 102 [(0, .ref (gm_am θ)), (1, .int x1), (2, .int x2), (3, .int x3), (4, .int x4), (5, .int x5), (6, .int x6), (7, .int x7), (8, .int x8)] [.int s0] X := by
  refine gx_istore (L' := [(9, .int s0), (0, .ref (gm_am θ)), (1, .int x1), (2, .int x2), (3, .int x3), (4, .int x4), (5, .int x5), (6, .int x6), (7, .int x7), (8, .int x8)]) h (by decide) rfl dX7_reckon_102 ?_
  refine gx_iload h 6 rfl dX7_reckon_104 ?_
  refine gx_if_le (tgt := 140) h (by decide) dX7_reckon_106 (fun c => ?_) (fun c => ?_)
  · replace k := k.1 c
    exact gx_sub [1, 2, 3, 4, 5, 6, 7, 8, 9, 0] rfl k
  · replace k := k.2 c
    refine gx_iload h 0 rfl dX7_reckon_109 ?_
    refine gx_aload_n h 1 rfl dX7_reckon_111 ?_
    refine gm_get13 h rfl dX7_reckon_112 ?_
    refine gx_iload_n h 4 rfl dX7_reckon_115 ?_
    refine gx_iload h 6 rfl dX7_reckon_116 ?_
    refine gx_iconst (v := 1) h dX7_reckon_118 (by decide) ?_
    refine gx_isub h dX7_reckon_119 ?_
    refine gx_iload h 5 rfl dX7_reckon_120 ?_
    refine gx_iload h 7 rfl dX7_reckon_122 ?_
    refine gm_c_cell h rfl ⟨Nat.le_of_ble_eq_true rfl, Nat.le_of_ble_eq_true rfl⟩ (Nat.le_of_ble_eq_true rfl) dX7_reckon_124 (gx_C.mono k ?_)
    rintro _ X124 ⟨r124, rfl, k⟩
    refine ⟨r124, rfl, ?_⟩
    refine gm_ld13 h k.1 dX7_reckon_127 ?_
    replace k := k.2
    refine gx_aload_n h 1 rfl dX7_reckon_128 ?_
    refine gm_get7 h rfl dX7_reckon_129 ?_
    refine gx_iconst (v := 3) h dX7_reckon_132 (by decide) ?_
    refine gm_ld7 h k.1 dX7_reckon_133 ?_
    replace k := k.2
    refine gx_iadd h dX7_reckon_134 ?_
    refine gm_c_lesser h rfl ⟨Nat.le_of_ble_eq_true rfl, Nat.le_of_ble_eq_true rfl⟩ (Nat.le_of_ble_eq_true rfl) dX7_reckon_135 (gx_C.mono k ?_)
    rintro _ X135 ⟨r135, rfl, k⟩
    refine ⟨r135, rfl, ?_⟩
    refine gx_istore (L' := [(9, .int r135), (0, .ref (gm_am θ)), (1, .int x1), (2, .int x2), (3, .int x3), (4, .int x4), (5, .int x5), (6, .int x6), (7, .int x7), (8, .int x8)]) h (by decide) rfl dX7_reckon_138 ?_
    exact gx_sub [1, 2, 3, 4, 5, 6, 7, 8, 9, 0] rfl k
theorem bm_reckon_140 {θ : gm_T} {K : gx_K} {P : gm_X → Prop} {X : gm_X} {x1 x2 x3 x4 x5 x6 x7 x8 x9 : Int32} (h : gm_K θ K mX7_reckon) (k : ((x6 ≤ 0 → gm_G θ K mX7_reckon (gm_Pv P) 176 [(0, .ref (gm_am θ)), (1, .int x1), (2, .int x2), (3, .int x3), (4, .int x4), (5, .int x5), (6, .int x6), (7, .int x7), (8, .int x8), (9, .int x9)] [] X) ∧ (¬ x6 ≤ 0 → gx_C (gm_O θ) mX7_cell [.int x3, .int x5, .int x4, .int (x6 - 1)] X (gm_Pi (fun r160 X160 => vp_in r160 923521 ∧ vp_in 2 4 ∧ gx_C (gm_O θ) mX7_lesser [.int x9, .int ((X160.2 13 r160.toNatClampNeg) + (X160.2 7 (2 : Int32).toNatClampNeg))] X160 (gm_Pi (fun r171 X171 => gm_G θ K mX7_reckon (gm_Pv P) 176 [(0, .ref (gm_am θ)), (1, .int x1), (2, .int x2), (3, .int x3), (4, .int x4), (5, .int x5), (6, .int x6), (7, .int x7), (8, .int x8), (9, .int r171)] [] X171))))))) : gm_G θ K mX7_reckon (gm_Pv P) 140 [(0, .ref (gm_am θ)), (1, .int x1), (2, .int x2), (3, .int x3), (4, .int x4), (5, .int x5), (6, .int x6), (7, .int x7), (8, .int x8), (9, .int x9)] [] X := by
  refine gx_iload h 6 rfl dX7_reckon_140 ?_
  refine gx_if_le (tgt := 176) h (by decide) dX7_reckon_142 (fun c => ?_) (fun c => ?_)
  · replace k := k.1 c
    exact k
  · replace k := k.2 c
    refine gx_iload h 9 rfl dX7_reckon_145 ?_
    refine gx_aload_n h 0 rfl dX7_reckon_147 ?_
    refine gm_get13 h rfl dX7_reckon_148 ?_
    refine gx_iload_n h 3 rfl dX7_reckon_151 ?_
    refine gx_iload h 5 rfl dX7_reckon_152 ?_
    refine gx_iload h 4 rfl dX7_reckon_154 ?_
    refine gx_iload h 6 rfl dX7_reckon_156 ?_
    refine gx_iconst (v := 1) h dX7_reckon_158 (by decide) ?_
    refine gx_isub h dX7_reckon_159 ?_
    refine gm_c_cell h rfl ⟨Nat.le_of_ble_eq_true rfl, Nat.le_of_ble_eq_true rfl⟩ (Nat.le_of_ble_eq_true rfl) dX7_reckon_160 (gx_C.mono k ?_)
    rintro _ X160 ⟨r160, rfl, k⟩
    refine ⟨r160, rfl, ?_⟩
    refine gm_ld13 h k.1 dX7_reckon_163 ?_
    replace k := k.2
    refine gx_aload_n h 0 rfl dX7_reckon_164 ?_
    refine gm_get7 h rfl dX7_reckon_165 ?_
    refine gx_iconst (v := 2) h dX7_reckon_168 (by decide) ?_
    refine gm_ld7 h k.1 dX7_reckon_169 ?_
    replace k := k.2
    refine gx_iadd h dX7_reckon_170 ?_
    refine gm_c_lesser h rfl ⟨Nat.le_of_ble_eq_true rfl, Nat.le_of_ble_eq_true rfl⟩ (Nat.le_of_ble_eq_true rfl) dX7_reckon_171 (gx_C.mono k ?_)
    rintro _ X171 ⟨r171, rfl, k⟩
    refine ⟨r171, rfl, ?_⟩
    refine gx_istore (L' := [(9, .int r171), (0, .ref (gm_am θ)), (1, .int x1), (2, .int x2), (3, .int x3), (4, .int x4), (5, .int x5), (6, .int x6), (7, .int x7), (8, .int x8)]) h (by decide) rfl dX7_reckon_174 ?_
    exact gx_sub [1, 2, 3, 4, 5, 6, 7, 8, 9, 0] rfl k
theorem bm_reckon_176 {θ : gm_T} {K : gx_K} {P : gm_X → Prop} {X : gm_X} {x1 x2 x3 x4 x5 x6 x7 x8 x9 : Int32} (h : gm_K θ K mX7_reckon) (k : ((x5 ≤ 0 → gm_G θ K mX7_reckon (gm_Pv P) 206 [(0, .ref (gm_am θ)), (1, .int x1), (2, .int x2), (3, .int x3), (4, .int x4), (5, .int x5), (6, .int x6), (9, .int x9)] [] X) ∧ (¬ x5 ≤ 0 → ((x6 ≤ 0 → gm_G θ K mX7_reckon (gm_Pv P) 206 [(0, .ref (gm_am θ)), (1, .int x1), (2, .int x2), (3, .int x3), (4, .int x4), (5, .int x5), (6, .int x6), (9, .int x9)] [] X) ∧ (¬ x6 ≤ 0 → gx_C (gm_O θ) mX7_byPair [.ref (gm_am θ), .int x1, .int x2, .int x3, .int x7, .int x4, .int x8] X (gm_Pi (fun r198 X198 => gx_C (gm_O θ) mX7_lesser [.int x9, .int r198] X198 (gm_Pi (fun r201 X201 => gm_G θ K mX7_reckon (gm_Pv P) 206 [(0, .ref (gm_am θ)), (1, .int x1), (2, .int x2), (3, .int x3), (4, .int x4), (5, .int x5), (6, .int x6), (9, .int r201)] [] X201))))))))) : gm_G θ K mX7_reckon (gm_Pv P) 176 [(0, .ref (gm_am θ)), (1, .int x1), (2, .int x2), (3, .int x3), (4, .int x4), (5, .int x5), (6, .int x6), (7, .int x7), (8, .int x8), (9, .int x9)] [] X := by
  refine gx_iload h 5 rfl dX7_reckon_176 ?_
  refine gx_if_le (tgt := 206) h (by decide) dX7_reckon_178 (fun c => ?_) (fun c => ?_)
  · replace k := k.1 c
    exact gx_sub [0, 1, 2, 3, 4, 5, 6, 9] rfl k
  · replace k := k.2 c
    refine gx_iload h 6 rfl dX7_reckon_181 ?_
    refine gx_if_le (tgt := 206) h (by decide) dX7_reckon_183 (fun c => ?_) (fun c => ?_)
    · replace k := k.1 c
      exact gx_sub [0, 1, 2, 3, 4, 5, 6, 9] rfl k
    · replace k := k.2 c
      refine gx_iload h 9 rfl dX7_reckon_186 ?_
      refine gx_aload_n h 0 rfl dX7_reckon_188 ?_
      refine gx_iload_n h 1 rfl dX7_reckon_189 ?_
      refine gx_iload_n h 2 rfl dX7_reckon_190 ?_
      refine gx_iload_n h 3 rfl dX7_reckon_191 ?_
      refine gx_iload h 7 rfl dX7_reckon_192 ?_
      refine gx_iload h 4 rfl dX7_reckon_194 ?_
      refine gx_iload h 8 rfl dX7_reckon_196 ?_
      refine gm_c_byPair h rfl ⟨Nat.le_of_ble_eq_true rfl, Nat.le_of_ble_eq_true rfl⟩ (Nat.le_of_ble_eq_true rfl) dX7_reckon_198 (gx_C.mono k ?_)
      rintro _ X198 ⟨r198, rfl, k⟩
      refine ⟨r198, rfl, ?_⟩
      refine gm_c_lesser h rfl ⟨Nat.le_of_ble_eq_true rfl, Nat.le_of_ble_eq_true rfl⟩ (Nat.le_of_ble_eq_true rfl) dX7_reckon_201 (gx_C.mono k ?_)
      rintro _ X201 ⟨r201, rfl, k⟩
      refine ⟨r201, rfl, ?_⟩
      refine gx_istore (L' := [(9, .int r201), (0, .ref (gm_am θ)), (1, .int x1), (2, .int x2), (3, .int x3), (4, .int x4), (5, .int x5), (6, .int x6), (7, .int x7), (8, .int x8)]) h (by decide) rfl dX7_reckon_204 ?_
      exact gx_sub [1, 2, 3, 4, 5, 6, 7, 0] rfl k
theorem bm_reckon_206 {θ : gm_T} {K : gx_K} {P : gm_X → Prop} {X : gm_X} {x1 x2 x3 x4 x5 x6 x9 : Int32} (h : gm_K θ K mX7_reckon) (k : gx_C (gm_O θ) mX7_cell [.int x3, .int x5, .int x4, .int x6] X (gm_Pi (fun r217 X217 => vp_in r217 923521 ∧ ∀ X222, X222 = gm_pA X217 13 r217.toNatClampNeg x9 → gm_G θ K mX7_reckon (gm_Pv P) 55 [(0, .ref (gm_am θ)), (1, .int x1), (2, .int x2), (3, .int x3), (4, .int x4), (5, .int x5), (6, .int (x6 + 1))] [] X222))) : gm_G θ K mX7_reckon (gm_Pv P) 206 [(0, .ref (gm_am θ)), (1, .int x1), (2, .int x2), (3, .int x3), (4, .int x4), (5, .int x5), (6, .int x6), (9, .int x9)] [] X := by
  refine gx_aload_n h 0 rfl dX7_reckon_206 ?_
  refine gm_get13 h rfl dX7_reckon_207 ?_
  refine gx_iload_n h 3 rfl dX7_reckon_210 ?_
  refine gx_iload h 5 rfl dX7_reckon_211 ?_
  refine gx_iload h 4 rfl dX7_reckon_213 ?_
  refine gx_iload h 6 rfl dX7_reckon_215 ?_
  refine gm_c_cell h rfl ⟨Nat.le_of_ble_eq_true rfl, Nat.le_of_ble_eq_true rfl⟩ (Nat.le_of_ble_eq_true rfl) dX7_reckon_217 (gx_C.mono k ?_)
  rintro _ X217 ⟨r217, rfl, k⟩
  refine ⟨r217, rfl, ?_⟩
  refine gx_iload h 7 rfl dX7_reckon_220 ?_
  refine gm_st13 h k.1 dX7_reckon_222 ?_
  generalize hz : gm_pA X217 13 r217.toNatClampNeg x9 = X222
  replace k := k.2 X222 hz.symm
  refine gx_iinc (v := x6 + 1) (L' := [(6, .int (x6 + 1)), (0, .ref (gm_am θ)), (1, .int x1), (2, .int x2), (3, .int x3), (4, .int x4), (5, .int x5), (9, .int x9)]) h 6 rfl rfl (by decide) rfl dX7_reckon_223 ?_
  refine gx_goto (tgt := 55) h (by decide) dX7_reckon_226 ?_
  exact gx_sub [1, 2, 3, 4, 5, 6, 0] rfl k
/-! lay -/
theorem em_lay {θ : gm_T} {P : gm_X → Prop} {X : gm_X} {x1 : Int32} {x2 : Int32} (body : ∀ K, gm_K θ K mX7_lay → gm_G θ K mX7_lay (gm_Pv P) 0 [(0, .ref (gm_am θ)), (1, .int x1), (2, .int x2)] [] X) : gx_C (gm_O θ) mX7_lay [.ref (gm_am θ), .int x1, .int x2] X (gm_Pv P) :=
  gx_C.intro (gm_z θ) (by decide) (Nat.le_of_ble_eq_true rfl) body
theorem bm_lay_0 {θ : gm_T} {K : gx_K} {P : gm_X → Prop} {X : gm_X} {x1 x2 : Int32} (h : gm_K θ K mX7_lay) (k : gm_G θ K mX7_lay (gm_Pv P) 2 [(0, .ref (gm_am θ)), (1, .int x1), (2, .int x2), (3, .int 0)] [] X) : gm_G θ K mX7_lay (gm_Pv P) 0 [(0, .ref (gm_am θ)), (1, .int x1), (2, .int x2)] [] X := by
  refine gx_iconst (v := 0) h dX7_lay_0 (by decide) ?_
  refine gx_istore_n (L' := [(3, .int 0), (0, .ref (gm_am θ)), (1, .int x1), (2, .int x2)]) h (by decide) rfl dX7_lay_1 ?_
  exact gx_sub [1, 2, 3, 0] rfl k
theorem bm_lay_2 {θ : gm_T} {K : gx_K} {P : gm_X → Prop} {X : gm_X} {x1 x2 x3 : Int32} (h : gm_K θ K mX7_lay) (k : vp_in x1 11 ∧ (((X.2 1 x1.toNatClampNeg) ≤ x3 → P X) ∧ (¬ (X.2 1 x1.toNatClampNeg) ≤ x3 → gx_C (gm_O θ) mX7_behind [.ref (gm_am θ), .int x1, .int x3] X (gm_Pi (fun r15 X15 => vp_in ((30 * x2) + r15) 60 ∧ ∀ X32, X32 = gm_pA X15 11 ((30 * x2) + r15).toNatClampNeg x3 → gx_C (gm_O θ) mX7_end [.ref (gm_am θ), .int x1, .int x3] X32 (gm_Pi (fun r49 X49 => vp_in ((30 * x2) + r15) 60 ∧ ∀ X57, X57 = gm_pA X49 12 ((30 * x2) + r15).toNatClampNeg (r15 - ((r49 - x3) - 1)) → gm_G θ K mX7_lay (gm_Pv P) 2 [(0, .ref (gm_am θ)), (1, .int x1), (2, .int x2), (3, .int (x3 + 1))] [] X57))))))) : gm_G θ K mX7_lay (gm_Pv P) 2 [(0, .ref (gm_am θ)), (1, .int x1), (2, .int x2), (3, .int x3)] [] X := by
  refine gx_iload_n h 3 rfl dX7_lay_2 ?_
  refine gx_aload_n h 0 rfl dX7_lay_3 ?_
  refine gm_get1 h rfl dX7_lay_4 ?_
  refine gx_iload_n h 1 rfl dX7_lay_7 ?_
  refine gm_ld1 h k.1 dX7_lay_8 ?_
  replace k := k.2
  refine gx_icmp_ge (tgt := 64) h (by decide) dX7_lay_9 (fun c => ?_) (fun c => ?_)
  · replace k := k.1 c
    exact gx_vret h rfl dX7_lay_64 ⟨rfl, k⟩
  · replace k := k.2 c
    refine gx_aload_n h 0 rfl dX7_lay_12 ?_
    refine gx_iload_n h 1 rfl dX7_lay_13 ?_
    refine gx_iload_n h 3 rfl dX7_lay_14 ?_
    refine gm_c_behind h rfl ⟨Nat.le_of_ble_eq_true rfl, Nat.le_of_ble_eq_true rfl⟩ (Nat.le_of_ble_eq_true rfl) dX7_lay_15 (gx_C.mono k ?_)
    rintro _ X15 ⟨r15, rfl, k⟩
    refine ⟨r15, rfl, ?_⟩
    refine gx_istore (L' := [(4, .int r15), (0, .ref (gm_am θ)), (1, .int x1), (2, .int x2), (3, .int x3)]) h (by decide) rfl dX7_lay_18 ?_
    refine gx_aload_n h 1 rfl dX7_lay_20 ?_
    refine gm_get11 h rfl dX7_lay_21 ?_
    refine gx_bipush (v := 30) h dX7_lay_24 (by decide) ?_
    refine gx_iload_n h 3 rfl dX7_lay_26 ?_
    refine gx_imul h dX7_lay_27 ?_
    refine gx_iload h 0 rfl dX7_lay_28 ?_
    refine gx_iadd h dX7_lay_30 ?_
    refine gx_iload_n h 4 rfl dX7_lay_31 ?_
    refine gm_st11 h k.1 dX7_lay_32 ?_
    generalize hz : gm_pA X15 11 ((30 * x2) + r15).toNatClampNeg x3 = X32
    replace k := k.2 X32 hz.symm
    refine gx_aload_n h 1 rfl dX7_lay_33 ?_
    refine gm_get12 h rfl dX7_lay_34 ?_
    refine gx_bipush (v := 30) h dX7_lay_37 (by decide) ?_
    refine gx_iload_n h 3 rfl dX7_lay_39 ?_
    refine gx_imul h dX7_lay_40 ?_
    refine gx_iload h 0 rfl dX7_lay_41 ?_
    refine gx_iadd h dX7_lay_43 ?_
    refine gx_iload h 0 rfl dX7_lay_44 ?_
    refine gx_aload_n h 1 rfl dX7_lay_46 ?_
    refine gx_iload_n h 2 rfl dX7_lay_47 ?_
    refine gx_iload_n h 4 rfl dX7_lay_48 ?_
    refine gm_c_end h rfl ⟨Nat.le_of_ble_eq_true rfl, Nat.le_of_ble_eq_true rfl⟩ (Nat.le_of_ble_eq_true rfl) dX7_lay_49 (gx_C.mono k ?_)
    rintro _ X49 ⟨r49, rfl, k⟩
    refine ⟨r49, rfl, ?_⟩
    refine gx_iload_n h 4 rfl dX7_lay_52 ?_
    refine gx_isub h dX7_lay_53 ?_
    refine gx_iconst (v := 1) h dX7_lay_54 (by decide) ?_
    refine gx_isub h dX7_lay_55 ?_
    refine gx_isub h dX7_lay_56 ?_
    refine gm_st12 h k.1 dX7_lay_57 ?_
    generalize hz : gm_pA X49 12 ((30 * x2) + r15).toNatClampNeg (r15 - ((r49 - x3) - 1)) = X57
    replace k := k.2 X57 hz.symm
    refine gx_iinc (v := x3 + 1) (L' := [(3, .int (x3 + 1)), (4, .int r15), (0, .ref (gm_am θ)), (1, .int x1), (2, .int x2)]) h 4 rfl rfl (by decide) rfl dX7_lay_58 ?_
    refine gx_goto (tgt := 2) h (by decide) dX7_lay_61 ?_
    exact gx_sub [2, 3, 4, 0] rfl k
/-! cell -/
theorem em_cell {θ : gm_T} {P : Int32 → gm_X → Prop} {X : gm_X} {x0 : Int32} {x1 : Int32} {x2 : Int32} {x3 : Int32} (body : ∀ K, gm_K θ K mX7_cell → gm_G θ K mX7_cell (gm_Pi P) 0 [(0, .int x0), (1, .int x1), (2, .int x2), (3, .int x3)] [] X) : gx_C (gm_O θ) mX7_cell [.int x0, .int x1, .int x2, .int x3] X (gm_Pi P) :=
  gx_C.intro (gm_z θ) (by decide) (Nat.le_of_ble_eq_true rfl) body
theorem bm_cell_0 {θ : gm_T} {K : gx_K} {P : Int32 → gm_X → Prop} {X : gm_X} {x0 x1 x2 x3 : Int32} (h : gm_K θ K mX7_cell) (k : P ((((((x0 * 31) + x1) * 31) + x2) * 31) + x3) X) : gm_G θ K mX7_cell (gm_Pi P) 0 [(0, .int x0), (1, .int x1), (2, .int x2), (3, .int x3)] [] X := by
  refine gx_iload_n h 0 rfl dX7_cell_0 ?_
  refine gx_bipush (v := 31) h dX7_cell_1 (by decide) ?_
  refine gx_imul h dX7_cell_3 ?_
  refine gx_iload_n h 1 rfl dX7_cell_4 ?_
  refine gx_iadd h dX7_cell_5 ?_
  refine gx_bipush (v := 31) h dX7_cell_6 (by decide) ?_
  refine gx_imul h dX7_cell_8 ?_
  refine gx_iload_n h 2 rfl dX7_cell_9 ?_
  refine gx_iadd h dX7_cell_10 ?_
  refine gx_bipush (v := 31) h dX7_cell_11 (by decide) ?_
  refine gx_imul h dX7_cell_13 ?_
  refine gx_iload_n h 3 rfl dX7_cell_14 ?_
  refine gx_iadd h dX7_cell_15 ?_
  exact gx_iret h rfl dX7_cell_16 ⟨_, rfl, k⟩
/-! lesser -/
theorem em_lesser {θ : gm_T} {P : Int32 → gm_X → Prop} {X : gm_X} {x0 : Int32} {x1 : Int32} (body : ∀ K, gm_K θ K mX7_lesser → gm_G θ K mX7_lesser (gm_Pi P) 0 [(0, .int x0), (1, .int x1)] [] X) : gx_C (gm_O θ) mX7_lesser [.int x0, .int x1] X (gm_Pi P) :=
  gx_C.intro (gm_z θ) (by decide) (Nat.le_of_ble_eq_true rfl) body
theorem bm_lesser_0 {θ : gm_T} {K : gx_K} {P : Int32 → gm_X → Prop} {X : gm_X} {x0 x1 : Int32} (h : gm_K θ K mX7_lesser) (k : ((x1 ≤ x0 → P x1 X) ∧ (¬ x1 ≤ x0 → P x0 X))) : gm_G θ K mX7_lesser (gm_Pi P) 0 [(0, .int x0), (1, .int x1)] [] X := by
  refine gx_iload_n h 0 rfl dX7_lesser_0 ?_
  refine gx_iload_n h 1 rfl dX7_lesser_1 ?_
  refine gx_icmp_ge (tgt := 9) h (by decide) dX7_lesser_2 (fun c => ?_) (fun c => ?_)
  · replace k := k.1 c
    refine gx_iload_n h 1 rfl dX7_lesser_9 ?_
    exact gx_iret h rfl dX7_lesser_10 ⟨_, rfl, k⟩
  · replace k := k.2 c
    refine gx_iload_n h 0 rfl dX7_lesser_5 ?_
    refine gx_goto (tgt := 10) h (by decide) dX7_lesser_6 ?_
    exact gx_iret h rfl dX7_lesser_10 ⟨_, rfl, k⟩
/-! byPair -/
theorem em_byPair {θ : gm_T} {P : Int32 → gm_X → Prop} {X : gm_X} {x1 : Int32} {x2 : Int32} {x3 : Int32} {x4 : Int32} {x5 : Int32} {x6 : Int32} (body : ∀ K, gm_K θ K mX7_byPair → gm_G θ K mX7_byPair (gm_Pi P) 0 [(0, .ref (gm_am θ)), (1, .int x1), (2, .int x2), (3, .int x3), (4, .int x4), (5, .int x5), (6, .int x6)] [] X) : gx_C (gm_O θ) mX7_byPair [.ref (gm_am θ), .int x1, .int x2, .int x3, .int x4, .int x5, .int x6] X (gm_Pi P) :=
  gx_C.intro (gm_z θ) (by decide) (Nat.le_of_ble_eq_true rfl) body
theorem bm_byPair_0 {θ : gm_T} {K : gx_K} {P : Int32 → gm_X → Prop} {X : gm_X} {x1 x2 x3 x4 x5 x6 : Int32} (h : gm_K θ K mX7_byPair) (k : vp_in x4 60 ∧ vp_in (30 + x6) 60 ∧ ∀ x8_19 : Int32, x8_19 = X.2 12 (30 + x6).toNatClampNeg → (((X.2 12 x4.toNatClampNeg) < x3 → gm_G θ K mX7_byPair (gm_Pi P) 34 [] [] X) ∧ (¬ (X.2 12 x4.toNatClampNeg) < x3 → ((x5 ≤ x8_19 → vp_in x4 60 ∧ vp_in (30 + x6) 60 ∧ gx_C (gm_O θ) mX7_pairs [.ref (gm_am θ), .int x1, .int (X.2 11 x4.toNatClampNeg), .int x2, .int (X.2 11 (30 + x6).toNatClampNeg)] X (gm_Pi (fun r57 X57 => ((r57 = 1000000000 → P 1000000000 X57) ∧ (¬ r57 = 1000000000 → gx_C (gm_O θ) mX7_cell [.int (X.2 12 x4.toNatClampNeg), .int (x4 - (X.2 12 x4.toNatClampNeg)), .int x8_19, .int (x6 - x8_19)] X57 (gm_Pi (fun r90 X90 => vp_in r90 923521 ∧ gx_C (gm_O θ) mX7_cell [.int x3, .int ((X.2 12 x4.toNatClampNeg) - x3), .int x5, .int (x8_19 - x5)] X90 (gm_Pi (fun r110 X110 => vp_in r110 923521 ∧ P (((X90.2 13 r90.toNatClampNeg) + (X110.2 13 r110.toNatClampNeg)) + r57) X110))))))))) ∧ (¬ x5 ≤ x8_19 → gm_G θ K mX7_byPair (gm_Pi P) 34 [] [] X))))) : gm_G θ K mX7_byPair (gm_Pi P) 0 [(0, .ref (gm_am θ)), (1, .int x1), (2, .int x2), (3, .int x3), (4, .int x4), (5, .int x5), (6, .int x6)] [] X := by
  refine gx_aload_n h 0 rfl dX7_byPair_0 ?_
  refine gm_get12 h rfl dX7_byPair_1 ?_
  refine gx_iload h 4 rfl dX7_byPair_4 ?_
  refine gm_ld12 h k.1 dX7_byPair_6 ?_
  replace k := k.2
  refine gx_istore (L' := [(7, .int (X.2 12 x4.toNatClampNeg)), (0, .ref (gm_am θ)), (1, .int x1), (2, .int x2), (3, .int x3), (4, .int x4), (5, .int x5), (6, .int x6)]) h (by decide) rfl dX7_byPair_7 ?_
  refine gx_aload_n h 1 rfl dX7_byPair_9 ?_
  refine gm_get12 h rfl dX7_byPair_10 ?_
  refine gx_bipush (v := 30) h dX7_byPair_13 (by decide) ?_
  refine gx_iload h 7 rfl dX7_byPair_15 ?_
  refine gx_iadd h dX7_byPair_17 ?_
  refine gm_ld12 h k.1 dX7_byPair_18 ?_
  replace k := k.2
  generalize hz : X.2 12 (30 + x6).toNatClampNeg = x8_19
  replace k := k x8_19 hz.symm
  refine gx_istore (L' := [(8, .int x8_19), (7, .int (X.2 12 x4.toNatClampNeg)), (0, .ref (gm_am θ)), (1, .int x1), (2, .int x2), (3, .int x3), (4, .int x4), (5, .int x5), (6, .int x6)]) h (by decide) rfl dX7_byPair_19 ?_
  refine gx_iload h 1 rfl dX7_byPair_21 ?_
  refine gx_iload_n h 5 rfl dX7_byPair_23 ?_
  refine gx_icmp_lt (tgt := 34) h (by decide) dX7_byPair_24 (fun c => ?_) (fun c => ?_)
  · replace k := k.1 c
    exact gx_sub [] rfl k
  · replace k := k.2 c
    refine gx_iload h 0 rfl dX7_byPair_27 ?_
    refine gx_iload h 7 rfl dX7_byPair_29 ?_
    refine gx_icmp_ge (tgt := 37) h (by decide) dX7_byPair_31 (fun c => ?_) (fun c => ?_)
    · replace k := k.1 c
      refine gx_aload_n h 2 rfl dX7_byPair_37 ?_
      refine gx_iload_n h 3 rfl dX7_byPair_38 ?_
      refine gx_aload_n h 2 rfl dX7_byPair_39 ?_
      refine gm_get11 h rfl dX7_byPair_40 ?_
      refine gx_iload h 6 rfl dX7_byPair_43 ?_
      refine gm_ld11 h k.1 dX7_byPair_45 ?_
      replace k := k.2
      refine gx_iload_n h 4 rfl dX7_byPair_46 ?_
      refine gx_aload_n h 2 rfl dX7_byPair_47 ?_
      refine gm_get11 h rfl dX7_byPair_48 ?_
      refine gx_bipush (v := 30) h dX7_byPair_51 (by decide) ?_
      refine gx_iload h 8 rfl dX7_byPair_53 ?_
      refine gx_iadd h dX7_byPair_55 ?_
      refine gm_ld11 h k.1 dX7_byPair_56 ?_
      replace k := k.2
      refine gm_c_pairs h rfl ⟨Nat.le_of_ble_eq_true rfl, Nat.le_of_ble_eq_true rfl⟩ (Nat.le_of_ble_eq_true rfl) dX7_byPair_57 (gx_C.mono k ?_)
      rintro _ X57 ⟨r57, rfl, k⟩
      refine ⟨r57, rfl, ?_⟩
      refine gx_istore (L' := [(9, .int r57), (8, .int x8_19), (7, .int (X.2 12 x4.toNatClampNeg)), (0, .ref (gm_am θ)), (1, .int x1), (2, .int x2), (3, .int x3), (4, .int x4), (5, .int x5), (6, .int x6)]) h (by decide) rfl dX7_byPair_60 ?_
      refine gx_iload h 0 rfl dX7_byPair_62 ?_
      refine gx_ldc (v := 1000000000) h q1535 dX7_byPair_64 ?_
      refine gx_icmp_ne (tgt := 72) h (by decide) dX7_byPair_66 (fun c => ?_) (fun c => ?_)
      · replace k := k.2 c
        refine gx_aload_n h 3 rfl dX7_byPair_72 ?_
        refine gm_get13 h rfl dX7_byPair_73 ?_
        refine gx_iload h 2 rfl dX7_byPair_76 ?_
        refine gx_iload h 7 rfl dX7_byPair_78 ?_
        refine gx_iload h 2 rfl dX7_byPair_80 ?_
        refine gx_isub h dX7_byPair_82 ?_
        refine gx_iload h 1 rfl dX7_byPair_83 ?_
        refine gx_iload h 9 rfl dX7_byPair_85 ?_
        refine gx_iload h 1 rfl dX7_byPair_87 ?_
        refine gx_isub h dX7_byPair_89 ?_
        refine gm_c_cell h rfl ⟨Nat.le_of_ble_eq_true rfl, Nat.le_of_ble_eq_true rfl⟩ (Nat.le_of_ble_eq_true rfl) dX7_byPair_90 (gx_C.mono k ?_)
        rintro _ X90 ⟨r90, rfl, k⟩
        refine ⟨r90, rfl, ?_⟩
        refine gm_ld13 h k.1 dX7_byPair_93 ?_
        replace k := k.2
        refine gx_aload_n h 3 rfl dX7_byPair_94 ?_
        refine gm_get13 h rfl dX7_byPair_95 ?_
        refine gx_iload_n h 6 rfl dX7_byPair_98 ?_
        refine gx_iload h 2 rfl dX7_byPair_99 ?_
        refine gx_iload_n h 6 rfl dX7_byPair_101 ?_
        refine gx_isub h dX7_byPair_102 ?_
        refine gx_iload h 8 rfl dX7_byPair_103 ?_
        refine gx_iload h 1 rfl dX7_byPair_105 ?_
        refine gx_iload h 8 rfl dX7_byPair_107 ?_
        refine gx_isub h dX7_byPair_109 ?_
        refine gm_c_cell h rfl ⟨Nat.le_of_ble_eq_true rfl, Nat.le_of_ble_eq_true rfl⟩ (Nat.le_of_ble_eq_true rfl) dX7_byPair_110 (gx_C.mono k ?_)
        rintro _ X110 ⟨r110, rfl, k⟩
        refine ⟨r110, rfl, ?_⟩
        refine gm_ld13 h k.1 dX7_byPair_113 ?_
        replace k := k.2
        refine gx_iadd h dX7_byPair_114 ?_
        refine gx_iload h 0 rfl dX7_byPair_115 ?_
        refine gx_iadd h dX7_byPair_117 ?_
        exact gx_iret h rfl dX7_byPair_118 ⟨_, rfl, k⟩
      · replace k := k.1 c
        refine gx_ldc (v := 1000000000) h q1535 dX7_byPair_69 ?_
        exact gx_iret h rfl dX7_byPair_71 ⟨_, rfl, k⟩
    · replace k := k.2 c
      exact gx_sub [] rfl k
theorem bm_byPair_34 {θ : gm_T} {K : gx_K} {P : Int32 → gm_X → Prop} {X : gm_X} (h : gm_K θ K mX7_byPair) (k : P 1000000000 X) : gm_G θ K mX7_byPair (gm_Pi P) 34 [] [] X := by
  refine gx_ldc (v := 1000000000) h q1535 dX7_byPair_34 ?_
  exact gx_iret h rfl dX7_byPair_36 ⟨_, rfl, k⟩
/-! pairs -/
theorem em_pairs {θ : gm_T} {P : Int32 → gm_X → Prop} {X : gm_X} {x1 : Int32} {x2 : Int32} {x3 : Int32} {x4 : Int32} (body : ∀ K, gm_K θ K mX7_pairs → gm_G θ K mX7_pairs (gm_Pi P) 0 [(0, .ref (gm_am θ)), (1, .int x1), (2, .int x2), (3, .int x3), (4, .int x4)] [] X) : gx_C (gm_O θ) mX7_pairs [.ref (gm_am θ), .int x1, .int x2, .int x3, .int x4] X (gm_Pi P) :=
  gx_C.intro (gm_z θ) (by decide) (Nat.le_of_ble_eq_true rfl) body
theorem bm_pairs_0 {θ : gm_T} {K : gx_K} {P : Int32 → gm_X → Prop} {X : gm_X} {x1 x2 x3 x4 : Int32} (h : gm_K θ K mX7_pairs) (k : gx_C (gm_O θ) mX7_isLike [.ref (gm_am θ), .int x1, .int x2, .int x3, .int x4, .int 3] X (gm_Pi (fun r7 X7 => gx_C (gm_O θ) mX7_isLike [.ref (gm_am θ), .int x1, .int x2, .int x3, .int x4, .int 10] X7 (gm_Pi (fun r20 X20 => gx_C (gm_O θ) mX7_of [.ref (gm_am θ), .int x1, .int x2, .int 1] X20 (gm_Pi (fun r29 X29 => gx_C (gm_O θ) mX7_of [.ref (gm_am θ), .int x3, .int x4, .int 1] X29 (gm_Pi (fun r37 X37 => ((r29 = r37 → gx_C (gm_O θ) mX7_of [.ref (gm_am θ), .int x1, .int x2, .int 1] X37 (gm_Pi (fun r47 X47 => ((r47 = 3 → ((r7 = 0 → gm_G θ K mX7_pairs (gm_Pi P) 64 [] [] X47) ∧ (¬ r7 = 0 → ((r20 = 0 → gm_G θ K mX7_pairs (gm_Pi P) 64 [] [] X47) ∧ (¬ r20 = 0 → gm_G θ K mX7_pairs (gm_Pi P) 67 [(0, .ref (gm_am θ)), (5, .int r7), (6, .int r20)] [] X47))))) ∧ (¬ r47 = 3 → gm_G θ K mX7_pairs (gm_Pi P) 67 [(0, .ref (gm_am θ)), (5, .int r7), (6, .int r20)] [] X47))))) ∧ (¬ r29 = r37 → gm_G θ K mX7_pairs (gm_Pi P) 64 [] [] X37))))))))))) : gm_G θ K mX7_pairs (gm_Pi P) 0 [(0, .ref (gm_am θ)), (1, .int x1), (2, .int x2), (3, .int x3), (4, .int x4)] [] X := by
  refine gx_aload_n h 0 rfl dX7_pairs_0 ?_
  refine gx_iload_n h 1 rfl dX7_pairs_1 ?_
  refine gx_iload_n h 2 rfl dX7_pairs_2 ?_
  refine gx_iload_n h 3 rfl dX7_pairs_3 ?_
  refine gx_iload h 4 rfl dX7_pairs_4 ?_
  refine gx_iconst (v := 3) h dX7_pairs_6 (by decide) ?_
  refine gm_c_isLike h rfl ⟨Nat.le_of_ble_eq_true rfl, Nat.le_of_ble_eq_true rfl⟩ (Nat.le_of_ble_eq_true rfl) dX7_pairs_7 (gx_C.mono k ?_)
  rintro _ X7 ⟨r7, rfl, k⟩
  refine ⟨r7, rfl, ?_⟩
  refine gx_istore (L' := [(5, .int r7), (0, .ref (gm_am θ)), (1, .int x1), (2, .int x2), (3, .int x3), (4, .int x4)]) h (by decide) rfl dX7_pairs_10 ?_
  refine gx_aload_n h 1 rfl dX7_pairs_12 ?_
  refine gx_iload_n h 2 rfl dX7_pairs_13 ?_
  refine gx_iload_n h 3 rfl dX7_pairs_14 ?_
  refine gx_iload_n h 4 rfl dX7_pairs_15 ?_
  refine gx_iload h 5 rfl dX7_pairs_16 ?_
  refine gx_bipush (v := 10) h dX7_pairs_18 (by decide) ?_
  refine gm_c_isLike h rfl ⟨Nat.le_of_ble_eq_true rfl, Nat.le_of_ble_eq_true rfl⟩ (Nat.le_of_ble_eq_true rfl) dX7_pairs_20 (gx_C.mono k ?_)
  rintro _ X20 ⟨r20, rfl, k⟩
  refine ⟨r20, rfl, ?_⟩
  refine gx_istore (L' := [(6, .int r20), (5, .int r7), (0, .ref (gm_am θ)), (1, .int x1), (2, .int x2), (3, .int x3), (4, .int x4)]) h (by decide) rfl dX7_pairs_23 ?_
  refine gx_aload_n h 2 rfl dX7_pairs_25 ?_
  refine gx_iload_n h 3 rfl dX7_pairs_26 ?_
  refine gx_iload_n h 4 rfl dX7_pairs_27 ?_
  refine gx_iconst (v := 1) h dX7_pairs_28 (by decide) ?_
  refine gm_c_of h rfl ⟨Nat.le_of_ble_eq_true rfl, Nat.le_of_ble_eq_true rfl⟩ (Nat.le_of_ble_eq_true rfl) dX7_pairs_29 (gx_C.mono k ?_)
  rintro _ X29 ⟨r29, rfl, k⟩
  refine ⟨r29, rfl, ?_⟩
  refine gx_aload_n h 2 rfl dX7_pairs_32 ?_
  refine gx_iload_n h 5 rfl dX7_pairs_33 ?_
  refine gx_iload h 6 rfl dX7_pairs_34 ?_
  refine gx_iconst (v := 1) h dX7_pairs_36 (by decide) ?_
  refine gm_c_of h rfl ⟨Nat.le_of_ble_eq_true rfl, Nat.le_of_ble_eq_true rfl⟩ (Nat.le_of_ble_eq_true rfl) dX7_pairs_37 (gx_C.mono k ?_)
  rintro _ X37 ⟨r37, rfl, k⟩
  refine ⟨r37, rfl, ?_⟩
  refine gx_icmp_ne (tgt := 64) h (by decide) dX7_pairs_40 (fun c => ?_) (fun c => ?_)
  · replace k := k.2 c
    exact gx_sub [] rfl k
  · replace k := k.1 c
    refine gx_aload_n h 2 rfl dX7_pairs_43 ?_
    refine gx_iload_n h 3 rfl dX7_pairs_44 ?_
    refine gx_iload_n h 4 rfl dX7_pairs_45 ?_
    refine gx_iconst (v := 1) h dX7_pairs_46 (by decide) ?_
    refine gm_c_of h rfl ⟨Nat.le_of_ble_eq_true rfl, Nat.le_of_ble_eq_true rfl⟩ (Nat.le_of_ble_eq_true rfl) dX7_pairs_47 (gx_C.mono k ?_)
    rintro _ X47 ⟨r47, rfl, k⟩
    refine ⟨r47, rfl, ?_⟩
    refine gx_iconst (v := 3) h dX7_pairs_50 (by decide) ?_
    refine gx_icmp_ne (tgt := 67) h (by decide) dX7_pairs_51 (fun c => ?_) (fun c => ?_)
    · replace k := k.2 c
      exact gx_sub [2, 1, 0] rfl k
    · replace k := k.1 c
      refine gx_iload h 1 rfl dX7_pairs_54 ?_
      refine gx_if_eq (tgt := 64) h (by decide) dX7_pairs_56 (fun c => ?_) (fun c => ?_)
      · replace k := k.1 c
        exact gx_sub [] rfl k
      · replace k := k.2 c
        refine gx_iload h 0 rfl dX7_pairs_59 ?_
        refine gx_if_ne (tgt := 67) h (by decide) dX7_pairs_61 (fun c => ?_) (fun c => ?_)
        · replace k := k.2 c
          exact gx_sub [2, 1, 0] rfl k
        · replace k := k.1 c
          exact gx_sub [] rfl k
theorem bm_pairs_64 {θ : gm_T} {K : gx_K} {P : Int32 → gm_X → Prop} {X : gm_X} (h : gm_K θ K mX7_pairs) (k : P 1000000000 X) : gm_G θ K mX7_pairs (gm_Pi P) 64 [] [] X := by
  refine gx_ldc (v := 1000000000) h q1535 dX7_pairs_64 ?_
  exact gx_iret h rfl dX7_pairs_66 ⟨_, rfl, k⟩
theorem bm_pairs_67 {θ : gm_T} {K : gx_K} {P : Int32 → gm_X → Prop} {X : gm_X} {x5 x6 : Int32} (h : gm_K θ K mX7_pairs) (k : ((x5 = 0 → vp_in 0 4 ∧ gm_G θ K mX7_pairs (gm_Pi P) 82 [(0, .ref (gm_am θ)), (6, .int x6)] [.int (X.2 7 (0 : Int32).toNatClampNeg)] X) ∧ (¬ x5 = 0 → gm_G θ K mX7_pairs (gm_Pi P) 82 [(0, .ref (gm_am θ)), (6, .int x6)] [.int 0] X))) : gm_G θ K mX7_pairs (gm_Pi P) 67 [(0, .ref (gm_am θ)), (5, .int x5), (6, .int x6)] [] X := by
  refine gx_iload h 1 rfl dX7_pairs_67 ?_
  refine gx_if_eq (tgt := 76) h (by decide) dX7_pairs_69 (fun c => ?_) (fun c => ?_)
  · replace k := k.1 c
    refine gx_aload_n h 0 rfl dX7_pairs_76 ?_
    refine gm_get7 h rfl dX7_pairs_77 ?_
    refine gx_iconst (v := 0) h dX7_pairs_80 (by decide) ?_
    refine gm_ld7 h k.1 dX7_pairs_81 ?_
    replace k := k.2
    exact gx_sub [0, 2] rfl k
  · replace k := k.2 c
    refine gx_iconst (v := 0) h dX7_pairs_72 (by decide) ?_
    refine gx_goto (tgt := 82) h (by decide) dX7_pairs_73 ?_
    exact gx_sub [0, 2] rfl k
theorem bm_pairs_82 {θ : gm_T} {K : gx_K} {P : Int32 → gm_X → Prop} {X : gm_X} {x6 s0 : Int32} (h : gm_K θ K mX7_pairs) (k : ((x6 = 0 → vp_in 1 4 ∧ P (s0 + (X.2 7 (1 : Int32).toNatClampNeg)) X) ∧ (¬ x6 = 0 → P (s0 + 0) X))) : gm_G θ K mX7_pairs (gm_Pi P) 82 [(0, .ref (gm_am θ)), (6, .int x6)] [.int s0] X := by
  refine gx_iload h 1 rfl dX7_pairs_82 ?_
  refine gx_if_eq (tgt := 91) h (by decide) dX7_pairs_84 (fun c => ?_) (fun c => ?_)
  · replace k := k.1 c
    refine gx_aload_n h 0 rfl dX7_pairs_91 ?_
    refine gm_get7 h rfl dX7_pairs_92 ?_
    refine gx_iconst (v := 1) h dX7_pairs_95 (by decide) ?_
    refine gm_ld7 h k.1 dX7_pairs_96 ?_
    replace k := k.2
    refine gx_iadd h dX7_pairs_97 ?_
    exact gx_iret h rfl dX7_pairs_98 ⟨_, rfl, k⟩
  · replace k := k.2 c
    refine gx_iconst (v := 0) h dX7_pairs_87 (by decide) ?_
    refine gx_goto (tgt := 97) h (by decide) dX7_pairs_88 ?_
    refine gx_iadd h dX7_pairs_97 ?_
    exact gx_iret h rfl dX7_pairs_98 ⟨_, rfl, k⟩
/-! map -/
theorem em_map {θ : gm_T} {P : Int32 → gm_X → Prop} {X : gm_X} {x1 : Int32} {x2 : Int32} (body : ∀ K, gm_K θ K mX7_map → gm_G θ K mX7_map (gm_Pi P) 0 [(0, .ref (gm_am θ)), (1, .int x1), (2, .int x2)] [] X) : gx_C (gm_O θ) mX7_map [.ref (gm_am θ), .int x1, .int x2] X (gm_Pi P) :=
  gx_C.intro (gm_z θ) (by decide) (Nat.le_of_ble_eq_true rfl) body
theorem bm_map_0 {θ : gm_T} {K : gx_K} {P : Int32 → gm_X → Prop} {X : gm_X} {x1 x2 : Int32} (h : gm_K θ K mX7_map) (k : gx_C (gm_O θ) mX7_lacks [.ref (gm_am θ), .int x1] X (gm_Pi (fun r2 X2 => ((0 ≤ r2 → gx_C (gm_O θ) mX7_lacks [.ref (gm_am θ), .int x2] X2 (gm_Pi (fun r18 X18 => ((0 ≤ r18 → gx_C (gm_O θ) mX7_reckon [.ref (gm_am θ), .int x1, .int x2] X18 (gm_Pv (fun X35 => gm_G θ K mX7_map (gm_Pi P) 41 [(0, .ref (gm_am θ)), (1, .int x1), (2, .int x2), (4, .int 0)] [] X35))) ∧ (¬ 0 ≤ r18 → gx_C (gm_O θ) mX7_found0 [.ref (gm_am θ), .int r18] X18 (gm_Pi (fun r28 X28 => P r28 X28))))))) ∧ (¬ 0 ≤ r2 → gx_C (gm_O θ) mX7_found0 [.ref (gm_am θ), .int r2] X2 (gm_Pi (fun r12 X12 => P r12 X12))))))) : gm_G θ K mX7_map (gm_Pi P) 0 [(0, .ref (gm_am θ)), (1, .int x1), (2, .int x2)] [] X := by
  refine gx_aload_n h 0 rfl dX7_map_0 ?_
  refine gx_iload_n h 1 rfl dX7_map_1 ?_
  refine gm_c_lacks h rfl ⟨Nat.le_of_ble_eq_true rfl, Nat.le_of_ble_eq_true rfl⟩ (Nat.le_of_ble_eq_true rfl) dX7_map_2 (gx_C.mono k ?_)
  rintro _ X2 ⟨r2, rfl, k⟩
  refine ⟨r2, rfl, ?_⟩
  refine gx_istore_n (L' := [(3, .int r2), (0, .ref (gm_am θ)), (1, .int x1), (2, .int x2)]) h (by decide) rfl dX7_map_5 ?_
  refine gx_iload_n h 0 rfl dX7_map_6 ?_
  refine gx_if_ge (tgt := 16) h (by decide) dX7_map_7 (fun c => ?_) (fun c => ?_)
  · replace k := k.1 c
    refine gx_aload_n h 1 rfl dX7_map_16 ?_
    refine gx_iload_n h 3 rfl dX7_map_17 ?_
    refine gm_c_lacks h rfl ⟨Nat.le_of_ble_eq_true rfl, Nat.le_of_ble_eq_true rfl⟩ (Nat.le_of_ble_eq_true rfl) dX7_map_18 (gx_C.mono k ?_)
    rintro _ X18 ⟨r18, rfl, k⟩
    refine ⟨r18, rfl, ?_⟩
    refine gx_istore_n (L' := [(3, .int r18), (0, .ref (gm_am θ)), (1, .int x1), (2, .int x2)]) h (by decide) rfl dX7_map_21 ?_
    refine gx_iload_n h 0 rfl dX7_map_22 ?_
    refine gx_if_ge (tgt := 32) h (by decide) dX7_map_23 (fun c => ?_) (fun c => ?_)
    · replace k := k.1 c
      refine gx_aload_n h 1 rfl dX7_map_32 ?_
      refine gx_iload_n h 2 rfl dX7_map_33 ?_
      refine gx_iload_n h 3 rfl dX7_map_34 ?_
      refine gm_c_reckon h rfl ⟨Nat.le_of_ble_eq_true rfl, Nat.le_of_ble_eq_true rfl⟩ (Nat.le_of_ble_eq_true rfl) dX7_map_35 (gx_C.mono k ?_)
      rintro _ X35 ⟨rfl, k⟩
      refine ⟨rfl, ?_⟩
      refine gx_iconst (v := 0) h dX7_map_38 (by decide) ?_
      refine gx_istore (L' := [(4, .int 0), (3, .int r18), (0, .ref (gm_am θ)), (1, .int x1), (2, .int x2)]) h (by decide) rfl dX7_map_39 ?_
      exact gx_sub [2, 3, 4, 0] rfl k
    · replace k := k.2 c
      refine gx_aload_n h 1 rfl dX7_map_26 ?_
      refine gx_iload_n h 0 rfl dX7_map_27 ?_
      refine gm_c_found0 h rfl ⟨Nat.le_of_ble_eq_true rfl, Nat.le_of_ble_eq_true rfl⟩ (Nat.le_of_ble_eq_true rfl) dX7_map_28 (gx_C.mono k ?_)
      rintro _ X28 ⟨r28, rfl, k⟩
      refine ⟨r28, rfl, ?_⟩
      exact gx_iret h rfl dX7_map_31 ⟨_, rfl, k⟩
  · replace k := k.2 c
    refine gx_aload_n h 1 rfl dX7_map_10 ?_
    refine gx_iload_n h 0 rfl dX7_map_11 ?_
    refine gm_c_found0 h rfl ⟨Nat.le_of_ble_eq_true rfl, Nat.le_of_ble_eq_true rfl⟩ (Nat.le_of_ble_eq_true rfl) dX7_map_12 (gx_C.mono k ?_)
    rintro _ X12 ⟨r12, rfl, k⟩
    refine ⟨r12, rfl, ?_⟩
    exact gx_iret h rfl dX7_map_15 ⟨_, rfl, k⟩
theorem bm_map_41 {θ : gm_T} {K : gx_K} {P : Int32 → gm_X → Prop} {X : gm_X} {x1 x2 x4 : Int32} (h : gm_K θ K mX7_map) (k : ((30 ≤ x4 → gm_G θ K mX7_map (gm_Pi P) 65 [(0, .ref (gm_am θ)), (1, .int x1), (2, .int x2), (4, .int 0)] [] X) ∧ (¬ 30 ≤ x4 → vp_in x4 30 ∧ ∀ X55, X55 = gm_pA X 14 x4.toNatClampNeg (-1) → gm_G θ K mX7_map (gm_Pi P) 41 [(0, .ref (gm_am θ)), (1, .int x1), (2, .int x2), (4, .int (x4 + 1))] [] X55))) : gm_G θ K mX7_map (gm_Pi P) 41 [(0, .ref (gm_am θ)), (1, .int x1), (2, .int x2), (4, .int x4)] [] X := by
  refine gx_iload h 3 rfl dX7_map_41 ?_
  refine gx_bipush (v := 30) h dX7_map_43 (by decide) ?_
  refine gx_icmp_ge (tgt := 62) h (by decide) dX7_map_45 (fun c => ?_) (fun c => ?_)
  · replace k := k.1 c
    refine gx_iconst (v := 0) h dX7_map_62 (by decide) ?_
    refine gx_istore (L' := [(4, .int 0), (0, .ref (gm_am θ)), (1, .int x1), (2, .int x2)]) h (by decide) rfl dX7_map_63 ?_
    exact gx_sub [1, 2, 3, 0] rfl k
  · replace k := k.2 c
    refine gx_aload_n h 0 rfl dX7_map_48 ?_
    refine gm_get14 h rfl dX7_map_49 ?_
    refine gx_iload h 3 rfl dX7_map_52 ?_
    refine gx_iconst (v := (-1)) h dX7_map_54 (by decide) ?_
    refine gm_st14 h k.1 dX7_map_55 ?_
    generalize hz : gm_pA X 14 x4.toNatClampNeg (-1) = X55
    replace k := k.2 X55 hz.symm
    refine gx_iinc (v := x4 + 1) (L' := [(4, .int (x4 + 1)), (0, .ref (gm_am θ)), (1, .int x1), (2, .int x2)]) h 3 rfl rfl (by decide) rfl dX7_map_56 ?_
    refine gx_goto (tgt := 41) h (by decide) dX7_map_59 ?_
    exact gx_sub [1, 2, 3, 0] rfl k
theorem bm_map_65 {θ : gm_T} {K : gx_K} {P : Int32 → gm_X → Prop} {X : gm_X} {x1 x2 x4 : Int32} (h : gm_K θ K mX7_map) (k : ((30 ≤ x4 → vp_in 0 64 ∧ ∀ X95, X95 = gm_pA X 16 (0 : Int32).toNatClampNeg 0 → vp_in x1 11 ∧ vp_in 0 64 ∧ ∀ X107, X107 = gm_pA X95 17 (0 : Int32).toNatClampNeg (X95.2 1 x1.toNatClampNeg) → vp_in 0 64 ∧ ∀ X114, X114 = gm_pA X107 18 (0 : Int32).toNatClampNeg 0 → vp_in x2 11 ∧ vp_in 0 64 ∧ ∀ X126, X126 = gm_pA X114 19 (0 : Int32).toNatClampNeg (X114.2 1 x2.toNatClampNeg) → gm_G θ K mX7_map (gm_Pi P) 127 [(0, .ref (gm_am θ)), (1, .int x1), (2, .int x2), (4, .int 1)] [] X126) ∧ (¬ 30 ≤ x4 → vp_in x4 30 ∧ ∀ X79, X79 = gm_pA X 15 x4.toNatClampNeg (-1) → gm_G θ K mX7_map (gm_Pi P) 65 [(0, .ref (gm_am θ)), (1, .int x1), (2, .int x2), (4, .int (x4 + 1))] [] X79))) : gm_G θ K mX7_map (gm_Pi P) 65 [(0, .ref (gm_am θ)), (1, .int x1), (2, .int x2), (4, .int x4)] [] X := by
  refine gx_iload h 3 rfl dX7_map_65 ?_
  refine gx_bipush (v := 30) h dX7_map_67 (by decide) ?_
  refine gx_icmp_ge (tgt := 86) h (by decide) dX7_map_69 (fun c => ?_) (fun c => ?_)
  · replace k := k.1 c
    refine gx_iconst (v := 1) h dX7_map_86 (by decide) ?_
    refine gx_istore (L' := [(4, .int 1), (0, .ref (gm_am θ)), (1, .int x1), (2, .int x2)]) h (by decide) rfl dX7_map_87 ?_
    refine gx_aload_n h 1 rfl dX7_map_89 ?_
    refine gm_get16 h rfl dX7_map_90 ?_
    refine gx_iconst (v := 0) h dX7_map_93 (by decide) ?_
    refine gx_iconst (v := 0) h dX7_map_94 (by decide) ?_
    refine gm_st16 h k.1 dX7_map_95 ?_
    generalize hz : gm_pA X 16 (0 : Int32).toNatClampNeg 0 = X95
    replace k := k.2 X95 hz.symm
    refine gx_aload_n h 1 rfl dX7_map_96 ?_
    refine gm_get17 h rfl dX7_map_97 ?_
    refine gx_iconst (v := 0) h dX7_map_100 (by decide) ?_
    refine gx_aload_n h 1 rfl dX7_map_101 ?_
    refine gm_get1 h rfl dX7_map_102 ?_
    refine gx_iload_n h 2 rfl dX7_map_105 ?_
    refine gm_ld1 h k.1 dX7_map_106 ?_
    replace k := k.2
    refine gm_st17 h k.1 dX7_map_107 ?_
    generalize hz : gm_pA X95 17 (0 : Int32).toNatClampNeg (X95.2 1 x1.toNatClampNeg) = X107
    replace k := k.2 X107 hz.symm
    refine gx_aload_n h 1 rfl dX7_map_108 ?_
    refine gm_get18 h rfl dX7_map_109 ?_
    refine gx_iconst (v := 0) h dX7_map_112 (by decide) ?_
    refine gx_iconst (v := 0) h dX7_map_113 (by decide) ?_
    refine gm_st18 h k.1 dX7_map_114 ?_
    generalize hz : gm_pA X107 18 (0 : Int32).toNatClampNeg 0 = X114
    replace k := k.2 X114 hz.symm
    refine gx_aload_n h 1 rfl dX7_map_115 ?_
    refine gm_get19 h rfl dX7_map_116 ?_
    refine gx_iconst (v := 0) h dX7_map_119 (by decide) ?_
    refine gx_aload_n h 1 rfl dX7_map_120 ?_
    refine gm_get1 h rfl dX7_map_121 ?_
    refine gx_iload_n h 3 rfl dX7_map_124 ?_
    refine gm_ld1 h k.1 dX7_map_125 ?_
    replace k := k.2
    refine gm_st19 h k.1 dX7_map_126 ?_
    generalize hz : gm_pA X114 19 (0 : Int32).toNatClampNeg (X114.2 1 x2.toNatClampNeg) = X126
    replace k := k.2 X126 hz.symm
    exact gx_sub [1, 2, 3, 0] rfl k
  · replace k := k.2 c
    refine gx_aload_n h 0 rfl dX7_map_72 ?_
    refine gm_get15 h rfl dX7_map_73 ?_
    refine gx_iload h 3 rfl dX7_map_76 ?_
    refine gx_iconst (v := (-1)) h dX7_map_78 (by decide) ?_
    refine gm_st15 h k.1 dX7_map_79 ?_
    generalize hz : gm_pA X 15 x4.toNatClampNeg (-1) = X79
    replace k := k.2 X79 hz.symm
    refine gx_iinc (v := x4 + 1) (L' := [(4, .int (x4 + 1)), (0, .ref (gm_am θ)), (1, .int x1), (2, .int x2)]) h 3 rfl rfl (by decide) rfl dX7_map_80 ?_
    refine gx_goto (tgt := 65) h (by decide) dX7_map_83 ?_
    exact gx_sub [1, 2, 3, 0] rfl k
theorem bm_map_127 {θ : gm_T} {K : gx_K} {P : Int32 → gm_X → Prop} {X : gm_X} {x1 x2 x4 : Int32} (h : gm_K θ K mX7_map) (k : ((x4 ≤ 0 → gx_C (gm_O θ) mX7_tells [.ref (gm_am θ), .int x1, .int x2] X (gm_Pv (fun X483 => P (X483.1 20) X483))) ∧ (¬ x4 ≤ 0 → vp_in (x4 - 1) 64 ∧ ∀ x6_145 : Int32, x6_145 = X.2 16 (x4 - 1).toNatClampNeg → vp_in (x4 - 1) 64 ∧ ∀ x7_154 : Int32, x7_154 = X.2 18 (x4 - 1).toNatClampNeg → vp_in (x4 - 1) 64 ∧ ∀ x8_168 : Int32, x8_168 = (x6_145 + (X.2 17 (x4 - 1).toNatClampNeg)) - 1 → vp_in (x4 - 1) 64 ∧ ∀ x9_182 : Int32, x9_182 = (x7_154 + (X.2 19 (x4 - 1).toNatClampNeg)) - 1 → vp_in (x4 - 1) 64 ∧ (((X.2 17 (x4 - 1).toNatClampNeg) = 0 → gm_G θ K mX7_map (gm_Pi P) 204 [(0, .ref (gm_am θ)), (1, .int x1), (2, .int x2), (4, .int x4)] [] X) ∧ (¬ (X.2 17 (x4 - 1).toNatClampNeg) = 0 → vp_in (x4 - 1) 64 ∧ (((X.2 19 (x4 - 1).toNatClampNeg) = 0 → gm_G θ K mX7_map (gm_Pi P) 204 [(0, .ref (gm_am θ)), (1, .int x1), (2, .int x2), (4, .int x4)] [] X) ∧ (¬ (X.2 19 (x4 - 1).toNatClampNeg) = 0 → vp_in (x4 - 1) 64 ∧ vp_in (x4 - 1) 64 ∧ gx_C (gm_O θ) mX7_cell [.int x6_145, .int (X.2 17 (x4 - 1).toNatClampNeg), .int x7_154, .int (X.2 19 (x4 - 1).toNatClampNeg)] X (gm_Pi (fun r232 X232 => vp_in r232 923521 ∧ ∀ x10_236 : Int32, x10_236 = X232.2 13 r232.toNatClampNeg → gx_C (gm_O θ) mX7_byPair [.ref (gm_am θ), .int x1, .int x2, .int x6_145, .int x8_168, .int x7_154, .int x9_182] X232 (gm_Pi (fun r249 X249 => ((r249 = x10_236 → vp_in x8_168 60 ∧ vp_in (30 + x9_182) 60 ∧ vp_in (X249.2 11 x8_168.toNatClampNeg) 30 ∧ ∀ X278, X278 = gm_pA X249 14 (X249.2 11 x8_168.toNatClampNeg).toNatClampNeg (X249.2 11 (30 + x9_182).toNatClampNeg) → vp_in (30 + x9_182) 60 ∧ vp_in x8_168 60 ∧ vp_in (X278.2 11 (30 + x9_182).toNatClampNeg) 30 ∧ ∀ X300, X300 = gm_pA X278 15 (X278.2 11 (30 + x9_182).toNatClampNeg).toNatClampNeg (X278.2 11 x8_168.toNatClampNeg) → vp_in x8_168 60 ∧ vp_in (x4 - 1) 64 ∧ ∀ X317, X317 = gm_pA X300 17 (x4 - 1).toNatClampNeg ((X300.2 12 x8_168.toNatClampNeg) - x6_145) → vp_in (30 + x9_182) 60 ∧ vp_in (x4 - 1) 64 ∧ ∀ X337, X337 = gm_pA X317 19 (x4 - 1).toNatClampNeg ((X317.2 12 (30 + x9_182).toNatClampNeg) - x7_154) → vp_in x8_168 60 ∧ vp_in x4 64 ∧ ∀ X351, X351 = gm_pA X337 16 x4.toNatClampNeg (X337.2 12 x8_168.toNatClampNeg) → vp_in x8_168 60 ∧ vp_in x4 64 ∧ ∀ X368, X368 = gm_pA X351 17 x4.toNatClampNeg (x8_168 - (X351.2 12 x8_168.toNatClampNeg)) → vp_in (30 + x9_182) 60 ∧ vp_in x4 64 ∧ ∀ X385, X385 = gm_pA X368 18 x4.toNatClampNeg (X368.2 12 (30 + x9_182).toNatClampNeg) → vp_in (30 + x9_182) 60 ∧ vp_in x4 64 ∧ ∀ X405, X405 = gm_pA X385 19 x4.toNatClampNeg (x9_182 - (X385.2 12 (30 + x9_182).toNatClampNeg)) → gm_G θ K mX7_map (gm_Pi P) 477 [(0, .ref (gm_am θ)), (1, .int x1), (2, .int x2), (4, .int (x4 + 1))] [] X405) ∧ (¬ r249 = x10_236 → vp_in (x4 - 1) 64 ∧ vp_in (x4 - 1) 64 ∧ gx_C (gm_O θ) mX7_cell [.int x6_145, .int ((X249.2 17 (x4 - 1).toNatClampNeg) - 1), .int x7_154, .int (X249.2 19 (x4 - 1).toNatClampNeg)] X249 (gm_Pi (fun r436 X436 => vp_in r436 923521 ∧ vp_in 3 4 ∧ ((((X436.2 13 r436.toNatClampNeg) + (X436.2 7 (3 : Int32).toNatClampNeg)) = x10_236 → vp_in (x4 - 1) 64 ∧ vp_in (x4 - 1) 64 ∧ ∀ X462, X462 = gm_pA X436 17 (x4 - 1).toNatClampNeg ((X436.2 17 (x4 - 1).toNatClampNeg) - 1) → gm_G θ K mX7_map (gm_Pi P) 477 [(0, .ref (gm_am θ)), (1, .int x1), (2, .int x2), (4, .int x4)] [] X462) ∧ (¬ ((X436.2 13 r436.toNatClampNeg) + (X436.2 7 (3 : Int32).toNatClampNeg)) = x10_236 → vp_in (x4 - 1) 64 ∧ vp_in (x4 - 1) 64 ∧ ∀ X476, X476 = gm_pA X436 19 (x4 - 1).toNatClampNeg ((X436.2 19 (x4 - 1).toNatClampNeg) - 1) → gm_G θ K mX7_map (gm_Pi P) 477 [(0, .ref (gm_am θ)), (1, .int x1), (2, .int x2), (4, .int x4)] [] X476))))))))))))))))) : gm_G θ K mX7_map (gm_Pi P) 127 [(0, .ref (gm_am θ)), (1, .int x1), (2, .int x2), (4, .int x4)] [] X := by
  refine gx_iload h 3 rfl dX7_map_127 ?_
  refine gx_if_le (tgt := 480) h (by decide) dX7_map_129 (fun c => ?_) (fun c => ?_)
  · replace k := k.1 c
    refine gx_aload_n h 0 rfl dX7_map_480 ?_
    refine gx_iload_n h 1 rfl dX7_map_481 ?_
    refine gx_iload_n h 2 rfl dX7_map_482 ?_
    refine gm_c_tells h rfl ⟨Nat.le_of_ble_eq_true rfl, Nat.le_of_ble_eq_true rfl⟩ (Nat.le_of_ble_eq_true rfl) dX7_map_483 (gx_C.mono k ?_)
    rintro _ X483 ⟨rfl, k⟩
    refine ⟨rfl, ?_⟩
    refine gx_aload_n h 0 rfl dX7_map_486 ?_
    refine gm_get20 h rfl dX7_map_487 ?_
    exact gx_iret h rfl dX7_map_490 ⟨_, rfl, k⟩
  · replace k := k.2 c
    refine gx_iload h 3 rfl dX7_map_132 ?_
    refine gx_iconst (v := 1) h dX7_map_134 (by decide) ?_
    refine gx_isub h dX7_map_135 ?_
    refine gx_istore (L' := [(5, .int (x4 - 1)), (0, .ref (gm_am θ)), (1, .int x1), (2, .int x2), (4, .int x4)]) h (by decide) rfl dX7_map_136 ?_
    refine gx_aload_n h 1 rfl dX7_map_138 ?_
    refine gm_get16 h rfl dX7_map_139 ?_
    refine gx_iload h 0 rfl dX7_map_142 ?_
    refine gm_ld16 h k.1 dX7_map_144 ?_
    replace k := k.2
    generalize hz : X.2 16 (x4 - 1).toNatClampNeg = x6_145
    replace k := k x6_145 hz.symm
    refine gx_istore (L' := [(6, .int x6_145), (5, .int (x4 - 1)), (0, .ref (gm_am θ)), (1, .int x1), (2, .int x2), (4, .int x4)]) h (by decide) rfl dX7_map_145 ?_
    refine gx_aload_n h 2 rfl dX7_map_147 ?_
    refine gm_get18 h rfl dX7_map_148 ?_
    refine gx_iload h 1 rfl dX7_map_151 ?_
    refine gm_ld18 h k.1 dX7_map_153 ?_
    replace k := k.2
    generalize hz : X.2 18 (x4 - 1).toNatClampNeg = x7_154
    replace k := k x7_154 hz.symm
    refine gx_istore (L' := [(7, .int x7_154), (6, .int x6_145), (5, .int (x4 - 1)), (0, .ref (gm_am θ)), (1, .int x1), (2, .int x2), (4, .int x4)]) h (by decide) rfl dX7_map_154 ?_
    refine gx_iload h 1 rfl dX7_map_156 ?_
    refine gx_aload_n h 3 rfl dX7_map_158 ?_
    refine gm_get17 h rfl dX7_map_159 ?_
    refine gx_iload h 2 rfl dX7_map_162 ?_
    refine gm_ld17 h k.1 dX7_map_164 ?_
    replace k := k.2
    refine gx_iadd h dX7_map_165 ?_
    refine gx_iconst (v := 1) h dX7_map_166 (by decide) ?_
    refine gx_isub h dX7_map_167 ?_
    generalize hz : (x6_145 + (X.2 17 (x4 - 1).toNatClampNeg)) - 1 = x8_168
    replace k := k x8_168 hz.symm
    refine gx_istore (L' := [(8, .int x8_168), (7, .int x7_154), (6, .int x6_145), (5, .int (x4 - 1)), (0, .ref (gm_am θ)), (1, .int x1), (2, .int x2), (4, .int x4)]) h (by decide) rfl dX7_map_168 ?_
    refine gx_iload h 1 rfl dX7_map_170 ?_
    refine gx_aload_n h 4 rfl dX7_map_172 ?_
    refine gm_get19 h rfl dX7_map_173 ?_
    refine gx_iload h 3 rfl dX7_map_176 ?_
    refine gm_ld19 h k.1 dX7_map_178 ?_
    replace k := k.2
    refine gx_iadd h dX7_map_179 ?_
    refine gx_iconst (v := 1) h dX7_map_180 (by decide) ?_
    refine gx_isub h dX7_map_181 ?_
    generalize hz : (x7_154 + (X.2 19 (x4 - 1).toNatClampNeg)) - 1 = x9_182
    replace k := k x9_182 hz.symm
    refine gx_istore (L' := [(9, .int x9_182), (8, .int x8_168), (7, .int x7_154), (6, .int x6_145), (5, .int (x4 - 1)), (0, .ref (gm_am θ)), (1, .int x1), (2, .int x2), (4, .int x4)]) h (by decide) rfl dX7_map_182 ?_
    refine gx_aload_n h 5 rfl dX7_map_184 ?_
    refine gm_get17 h rfl dX7_map_185 ?_
    refine gx_iload h 4 rfl dX7_map_188 ?_
    refine gm_ld17 h k.1 dX7_map_190 ?_
    replace k := k.2
    refine gx_if_eq (tgt := 204) h (by decide) dX7_map_191 (fun c => ?_) (fun c => ?_)
    · replace k := k.1 c
      exact gx_sub [5, 6, 7, 8] rfl k
    · replace k := k.2 c
      refine gx_aload_n h 5 rfl dX7_map_194 ?_
      refine gm_get19 h rfl dX7_map_195 ?_
      refine gx_iload h 4 rfl dX7_map_198 ?_
      refine gm_ld19 h k.1 dX7_map_200 ?_
      replace k := k.2
      refine gx_if_ne (tgt := 210) h (by decide) dX7_map_201 (fun c => ?_) (fun c => ?_)
      · replace k := k.2 c
        refine gx_aload_n h 5 rfl dX7_map_210 ?_
        refine gm_get13 h rfl dX7_map_211 ?_
        refine gx_iload h 3 rfl dX7_map_214 ?_
        refine gx_aload_n h 5 rfl dX7_map_216 ?_
        refine gm_get17 h rfl dX7_map_217 ?_
        refine gx_iload h 4 rfl dX7_map_220 ?_
        refine gm_ld17 h k.1 dX7_map_222 ?_
        replace k := k.2
        refine gx_iload h 2 rfl dX7_map_223 ?_
        refine gx_aload_n h 5 rfl dX7_map_225 ?_
        refine gm_get19 h rfl dX7_map_226 ?_
        refine gx_iload h 4 rfl dX7_map_229 ?_
        refine gm_ld19 h k.1 dX7_map_231 ?_
        replace k := k.2
        refine gm_c_cell h rfl ⟨Nat.le_of_ble_eq_true rfl, Nat.le_of_ble_eq_true rfl⟩ (Nat.le_of_ble_eq_true rfl) dX7_map_232 (gx_C.mono k ?_)
        rintro _ X232 ⟨r232, rfl, k⟩
        refine ⟨r232, rfl, ?_⟩
        refine gm_ld13 h k.1 dX7_map_235 ?_
        replace k := k.2
        generalize hz : X232.2 13 r232.toNatClampNeg = x10_236
        replace k := k x10_236 hz.symm
        refine gx_istore (L' := [(10, .int x10_236), (9, .int x9_182), (8, .int x8_168), (7, .int x7_154), (6, .int x6_145), (5, .int (x4 - 1)), (0, .ref (gm_am θ)), (1, .int x1), (2, .int x2), (4, .int x4)]) h (by decide) rfl dX7_map_236 ?_
        refine gx_aload_n h 6 rfl dX7_map_238 ?_
        refine gx_iload_n h 7 rfl dX7_map_239 ?_
        refine gx_iload_n h 8 rfl dX7_map_240 ?_
        refine gx_iload h 4 rfl dX7_map_241 ?_
        refine gx_iload h 2 rfl dX7_map_243 ?_
        refine gx_iload h 3 rfl dX7_map_245 ?_
        refine gx_iload h 1 rfl dX7_map_247 ?_
        refine gm_c_byPair h rfl ⟨Nat.le_of_ble_eq_true rfl, Nat.le_of_ble_eq_true rfl⟩ (Nat.le_of_ble_eq_true rfl) dX7_map_249 (gx_C.mono k ?_)
        rintro _ X249 ⟨r249, rfl, k⟩
        refine ⟨r249, rfl, ?_⟩
        refine gx_iload h 0 rfl dX7_map_252 ?_
        refine gx_icmp_ne (tgt := 412) h (by decide) dX7_map_254 (fun c => ?_) (fun c => ?_)
        · replace k := k.2 c
          refine gx_aload_n h 6 rfl dX7_map_412 ?_
          refine gm_get13 h rfl dX7_map_413 ?_
          refine gx_iload h 4 rfl dX7_map_416 ?_
          refine gx_aload_n h 6 rfl dX7_map_418 ?_
          refine gm_get17 h rfl dX7_map_419 ?_
          refine gx_iload h 5 rfl dX7_map_422 ?_
          refine gm_ld17 h k.1 dX7_map_424 ?_
          replace k := k.2
          refine gx_iconst (v := 1) h dX7_map_425 (by decide) ?_
          refine gx_isub h dX7_map_426 ?_
          refine gx_iload h 3 rfl dX7_map_427 ?_
          refine gx_aload_n h 6 rfl dX7_map_429 ?_
          refine gm_get19 h rfl dX7_map_430 ?_
          refine gx_iload h 5 rfl dX7_map_433 ?_
          refine gm_ld19 h k.1 dX7_map_435 ?_
          replace k := k.2
          refine gm_c_cell h rfl ⟨Nat.le_of_ble_eq_true rfl, Nat.le_of_ble_eq_true rfl⟩ (Nat.le_of_ble_eq_true rfl) dX7_map_436 (gx_C.mono k ?_)
          rintro _ X436 ⟨r436, rfl, k⟩
          refine ⟨r436, rfl, ?_⟩
          refine gm_ld13 h k.1 dX7_map_439 ?_
          replace k := k.2
          refine gx_aload_n h 6 rfl dX7_map_440 ?_
          refine gm_get7 h rfl dX7_map_441 ?_
          refine gx_iconst (v := 3) h dX7_map_444 (by decide) ?_
          refine gm_ld7 h k.1 dX7_map_445 ?_
          replace k := k.2
          refine gx_iadd h dX7_map_446 ?_
          refine gx_iload h 0 rfl dX7_map_447 ?_
          refine gx_icmp_ne (tgt := 466) h (by decide) dX7_map_449 (fun c => ?_) (fun c => ?_)
          · replace k := k.2 c
            refine gx_aload_n h 6 rfl dX7_map_466 ?_
            refine gm_get19 h rfl dX7_map_467 ?_
            refine gx_iload h 5 rfl dX7_map_470 ?_
            refine gx_dup2 h rfl rfl dX7_map_472 ?_
            refine gm_ld19 h k.1 dX7_map_473 ?_
            replace k := k.2
            refine gx_iconst (v := 1) h dX7_map_474 (by decide) ?_
            refine gx_isub h dX7_map_475 ?_
            refine gm_st19 h k.1 dX7_map_476 ?_
            generalize hz : gm_pA X436 19 (x4 - 1).toNatClampNeg ((X436.2 19 (x4 - 1).toNatClampNeg) - 1) = X476
            replace k := k.2 X476 hz.symm
            exact gx_sub [6, 7, 8, 9] rfl k
          · replace k := k.1 c
            refine gx_aload_n h 6 rfl dX7_map_452 ?_
            refine gm_get17 h rfl dX7_map_453 ?_
            refine gx_iload h 5 rfl dX7_map_456 ?_
            refine gx_dup2 h rfl rfl dX7_map_458 ?_
            refine gm_ld17 h k.1 dX7_map_459 ?_
            replace k := k.2
            refine gx_iconst (v := 1) h dX7_map_460 (by decide) ?_
            refine gx_isub h dX7_map_461 ?_
            refine gm_st17 h k.1 dX7_map_462 ?_
            generalize hz : gm_pA X436 17 (x4 - 1).toNatClampNeg ((X436.2 17 (x4 - 1).toNatClampNeg) - 1) = X462
            replace k := k.2 X462 hz.symm
            refine gx_goto (tgt := 477) h (by decide) dX7_map_463 ?_
            exact gx_sub [6, 7, 8, 9] rfl k
        · replace k := k.1 c
          refine gx_aload_n h 6 rfl dX7_map_257 ?_
          refine gm_get14 h rfl dX7_map_258 ?_
          refine gx_aload_n h 6 rfl dX7_map_261 ?_
          refine gm_get11 h rfl dX7_map_262 ?_
          refine gx_iload h 2 rfl dX7_map_265 ?_
          refine gm_ld11 h k.1 dX7_map_267 ?_
          replace k := k.2
          refine gx_aload_n h 6 rfl dX7_map_268 ?_
          refine gm_get11 h rfl dX7_map_269 ?_
          refine gx_bipush (v := 30) h dX7_map_272 (by decide) ?_
          refine gx_iload h 1 rfl dX7_map_274 ?_
          refine gx_iadd h dX7_map_276 ?_
          refine gm_ld11 h k.1 dX7_map_277 ?_
          replace k := k.2
          refine gm_st14 h k.1 dX7_map_278 ?_
          generalize hz : gm_pA X249 14 (X249.2 11 x8_168.toNatClampNeg).toNatClampNeg (X249.2 11 (30 + x9_182).toNatClampNeg) = X278
          replace k := k.2 X278 hz.symm
          refine gx_aload_n h 6 rfl dX7_map_279 ?_
          refine gm_get15 h rfl dX7_map_280 ?_
          refine gx_aload_n h 6 rfl dX7_map_283 ?_
          refine gm_get11 h rfl dX7_map_284 ?_
          refine gx_bipush (v := 30) h dX7_map_287 (by decide) ?_
          refine gx_iload h 1 rfl dX7_map_289 ?_
          refine gx_iadd h dX7_map_291 ?_
          refine gm_ld11 h k.1 dX7_map_292 ?_
          replace k := k.2
          refine gx_aload_n h 6 rfl dX7_map_293 ?_
          refine gm_get11 h rfl dX7_map_294 ?_
          refine gx_iload h 2 rfl dX7_map_297 ?_
          refine gm_ld11 h k.1 dX7_map_299 ?_
          replace k := k.2
          refine gm_st15 h k.1 dX7_map_300 ?_
          generalize hz : gm_pA X278 15 (X278.2 11 (30 + x9_182).toNatClampNeg).toNatClampNeg (X278.2 11 x8_168.toNatClampNeg) = X300
          replace k := k.2 X300 hz.symm
          refine gx_aload_n h 6 rfl dX7_map_301 ?_
          refine gm_get17 h rfl dX7_map_302 ?_
          refine gx_iload h 5 rfl dX7_map_305 ?_
          refine gx_aload_n h 6 rfl dX7_map_307 ?_
          refine gm_get12 h rfl dX7_map_308 ?_
          refine gx_iload h 2 rfl dX7_map_311 ?_
          refine gm_ld12 h k.1 dX7_map_313 ?_
          replace k := k.2
          refine gx_iload h 4 rfl dX7_map_314 ?_
          refine gx_isub h dX7_map_316 ?_
          refine gm_st17 h k.1 dX7_map_317 ?_
          generalize hz : gm_pA X300 17 (x4 - 1).toNatClampNeg ((X300.2 12 x8_168.toNatClampNeg) - x6_145) = X317
          replace k := k.2 X317 hz.symm
          refine gx_aload_n h 6 rfl dX7_map_318 ?_
          refine gm_get19 h rfl dX7_map_319 ?_
          refine gx_iload h 5 rfl dX7_map_322 ?_
          refine gx_aload_n h 6 rfl dX7_map_324 ?_
          refine gm_get12 h rfl dX7_map_325 ?_
          refine gx_bipush (v := 30) h dX7_map_328 (by decide) ?_
          refine gx_iload h 1 rfl dX7_map_330 ?_
          refine gx_iadd h dX7_map_332 ?_
          refine gm_ld12 h k.1 dX7_map_333 ?_
          replace k := k.2
          refine gx_iload h 3 rfl dX7_map_334 ?_
          refine gx_isub h dX7_map_336 ?_
          refine gm_st19 h k.1 dX7_map_337 ?_
          generalize hz : gm_pA X317 19 (x4 - 1).toNatClampNeg ((X317.2 12 (30 + x9_182).toNatClampNeg) - x7_154) = X337
          replace k := k.2 X337 hz.symm
          refine gx_aload_n h 6 rfl dX7_map_338 ?_
          refine gm_get16 h rfl dX7_map_339 ?_
          refine gx_iload h 9 rfl dX7_map_342 ?_
          refine gx_aload_n h 6 rfl dX7_map_344 ?_
          refine gm_get12 h rfl dX7_map_345 ?_
          refine gx_iload h 2 rfl dX7_map_348 ?_
          refine gm_ld12 h k.1 dX7_map_350 ?_
          replace k := k.2
          refine gm_st16 h k.1 dX7_map_351 ?_
          generalize hz : gm_pA X337 16 x4.toNatClampNeg (X337.2 12 x8_168.toNatClampNeg) = X351
          replace k := k.2 X351 hz.symm
          refine gx_aload_n h 6 rfl dX7_map_352 ?_
          refine gm_get17 h rfl dX7_map_353 ?_
          refine gx_iload h 9 rfl dX7_map_356 ?_
          refine gx_iload h 2 rfl dX7_map_358 ?_
          refine gx_aload_n h 6 rfl dX7_map_360 ?_
          refine gm_get12 h rfl dX7_map_361 ?_
          refine gx_iload h 2 rfl dX7_map_364 ?_
          refine gm_ld12 h k.1 dX7_map_366 ?_
          replace k := k.2
          refine gx_isub h dX7_map_367 ?_
          refine gm_st17 h k.1 dX7_map_368 ?_
          generalize hz : gm_pA X351 17 x4.toNatClampNeg (x8_168 - (X351.2 12 x8_168.toNatClampNeg)) = X368
          replace k := k.2 X368 hz.symm
          refine gx_aload_n h 6 rfl dX7_map_369 ?_
          refine gm_get18 h rfl dX7_map_370 ?_
          refine gx_iload h 9 rfl dX7_map_373 ?_
          refine gx_aload_n h 6 rfl dX7_map_375 ?_
          refine gm_get12 h rfl dX7_map_376 ?_
          refine gx_bipush (v := 30) h dX7_map_379 (by decide) ?_
          refine gx_iload h 1 rfl dX7_map_381 ?_
          refine gx_iadd h dX7_map_383 ?_
          refine gm_ld12 h k.1 dX7_map_384 ?_
          replace k := k.2
          refine gm_st18 h k.1 dX7_map_385 ?_
          generalize hz : gm_pA X368 18 x4.toNatClampNeg (X368.2 12 (30 + x9_182).toNatClampNeg) = X385
          replace k := k.2 X385 hz.symm
          refine gx_aload_n h 6 rfl dX7_map_386 ?_
          refine gm_get19 h rfl dX7_map_387 ?_
          refine gx_iload h 9 rfl dX7_map_390 ?_
          refine gx_iload h 1 rfl dX7_map_392 ?_
          refine gx_aload_n h 6 rfl dX7_map_394 ?_
          refine gm_get12 h rfl dX7_map_395 ?_
          refine gx_bipush (v := 30) h dX7_map_398 (by decide) ?_
          refine gx_iload h 1 rfl dX7_map_400 ?_
          refine gx_iadd h dX7_map_402 ?_
          refine gm_ld12 h k.1 dX7_map_403 ?_
          replace k := k.2
          refine gx_isub h dX7_map_404 ?_
          refine gm_st19 h k.1 dX7_map_405 ?_
          generalize hz : gm_pA X385 19 x4.toNatClampNeg (x9_182 - (X385.2 12 (30 + x9_182).toNatClampNeg)) = X405
          replace k := k.2 X405 hz.symm
          refine gx_iinc (v := x4 + 1) (L' := [(4, .int (x4 + 1)), (10, .int x10_236), (9, .int x9_182), (8, .int x8_168), (7, .int x7_154), (6, .int x6_145), (5, .int (x4 - 1)), (0, .ref (gm_am θ)), (1, .int x1), (2, .int x2)]) h 9 rfl rfl (by decide) rfl dX7_map_406 ?_
          refine gx_goto (tgt := 477) h (by decide) dX7_map_409 ?_
          exact gx_sub [7, 8, 9, 0] rfl k
      · replace k := k.1 c
        exact gx_sub [5, 6, 7, 8] rfl k
theorem bm_map_204 {θ : gm_T} {K : gx_K} {P : Int32 → gm_X → Prop} {X : gm_X} {x1 x2 x4 : Int32} (h : gm_K θ K mX7_map) (k : gm_G θ K mX7_map (gm_Pi P) 127 [(0, .ref (gm_am θ)), (1, .int x1), (2, .int x2), (4, .int (x4 + (-1)))] [] X) : gm_G θ K mX7_map (gm_Pi P) 204 [(0, .ref (gm_am θ)), (1, .int x1), (2, .int x2), (4, .int x4)] [] X := by
  refine gx_iinc (v := x4 + (-1)) (L' := [(4, .int (x4 + (-1))), (0, .ref (gm_am θ)), (1, .int x1), (2, .int x2)]) h 3 rfl (congrArg (fun q => x4 + q) (by decide)) (by decide) rfl dX7_map_204 ?_
  refine gx_goto (tgt := 127) h (by decide) dX7_map_207 ?_
  exact gx_sub [1, 2, 3, 0] rfl k
theorem bm_map_477 {θ : gm_T} {K : gx_K} {P : Int32 → gm_X → Prop} {X : gm_X} {x1 x2 x4 : Int32} (h : gm_K θ K mX7_map) (k : gm_G θ K mX7_map (gm_Pi P) 127 [(0, .ref (gm_am θ)), (1, .int x1), (2, .int x2), (4, .int x4)] [] X) : gm_G θ K mX7_map (gm_Pi P) 477 [(0, .ref (gm_am θ)), (1, .int x1), (2, .int x2), (4, .int x4)] [] X := by
  refine gx_goto (tgt := 127) h (by decide) dX7_map_477 ?_
  exact k
/-! tells -/
theorem em_tells {θ : gm_T} {P : gm_X → Prop} {X : gm_X} {x1 : Int32} {x2 : Int32} (body : ∀ K, gm_K θ K mX7_tells → gm_G θ K mX7_tells (gm_Pv P) 0 [(0, .ref (gm_am θ)), (1, .int x1), (2, .int x2)] [] X) : gx_C (gm_O θ) mX7_tells [.ref (gm_am θ), .int x1, .int x2] X (gm_Pv P) :=
  gx_C.intro (gm_z θ) (by decide) (Nat.le_of_ble_eq_true rfl) body
theorem bm_tells_0 {θ : gm_T} {K : gx_K} {P : gm_X → Prop} {X : gm_X} {x1 x2 : Int32} (h : gm_K θ K mX7_tells) (k : ∀ X2, X2 = gm_pI X 20 0 → ∀ X7, X7 = gm_pI X2 21 0 → vp_in x1 11 ∧ vp_in x2 11 ∧ ∀ X24, X24 = gm_pI X7 22 ((X7.2 1 x1.toNatClampNeg) + (X7.2 1 x2.toNatClampNeg)) → gm_G θ K mX7_tells (gm_Pv P) 29 [(0, .ref (gm_am θ)), (1, .int x1), (2, .int x2), (3, .int 0)] [] X24) : gm_G θ K mX7_tells (gm_Pv P) 0 [(0, .ref (gm_am θ)), (1, .int x1), (2, .int x2)] [] X := by
  refine gx_aload_n h 0 rfl dX7_tells_0 ?_
  refine gx_iconst (v := 0) h dX7_tells_1 (by decide) ?_
  refine gm_put20 h rfl dX7_tells_2 ?_
  generalize hz : gm_pI X 20 0 = X2
  replace k := k X2 hz.symm
  refine gx_aload_n h 0 rfl dX7_tells_5 ?_
  refine gx_iconst (v := 0) h dX7_tells_6 (by decide) ?_
  refine gm_put21 h rfl dX7_tells_7 ?_
  generalize hz : gm_pI X2 21 0 = X7
  replace k := k X7 hz.symm
  refine gx_aload_n h 0 rfl dX7_tells_10 ?_
  refine gx_aload_n h 0 rfl dX7_tells_11 ?_
  refine gm_get1 h rfl dX7_tells_12 ?_
  refine gx_iload_n h 1 rfl dX7_tells_15 ?_
  refine gm_ld1 h k.1 dX7_tells_16 ?_
  replace k := k.2
  refine gx_aload_n h 0 rfl dX7_tells_17 ?_
  refine gm_get1 h rfl dX7_tells_18 ?_
  refine gx_iload_n h 2 rfl dX7_tells_21 ?_
  refine gm_ld1 h k.1 dX7_tells_22 ?_
  replace k := k.2
  refine gx_iadd h dX7_tells_23 ?_
  refine gm_put22 h rfl dX7_tells_24 ?_
  generalize hz : gm_pI X7 22 ((X7.2 1 x1.toNatClampNeg) + (X7.2 1 x2.toNatClampNeg)) = X24
  replace k := k X24 hz.symm
  refine gx_iconst (v := 0) h dX7_tells_27 (by decide) ?_
  refine gx_istore_n (L' := [(3, .int 0), (0, .ref (gm_am θ)), (1, .int x1), (2, .int x2)]) h (by decide) rfl dX7_tells_28 ?_
  exact gx_sub [1, 2, 3, 0] rfl k
theorem bm_tells_29 {θ : gm_T} {K : gx_K} {P : gm_X → Prop} {X : gm_X} {x1 x2 x3 : Int32} (h : gm_K θ K mX7_tells) (k : vp_in x1 11 ∧ (((X.2 1 x1.toNatClampNeg) ≤ x3 → gm_G θ K mX7_tells (gm_Pv P) 68 [(0, .ref (gm_am θ)), (1, .int x1), (2, .int x2), (3, .int 0)] [] X) ∧ (¬ (X.2 1 x1.toNatClampNeg) ≤ x3 → vp_in x3 30 ∧ ((0 ≤ (X.2 14 x3.toNatClampNeg) → gm_G θ K mX7_tells (gm_Pv P) 60 [(0, .ref (gm_am θ)), (1, .int x1), (2, .int x2), (3, .int x3)] [] X) ∧ (¬ 0 ≤ (X.2 14 x3.toNatClampNeg) → gx_C (gm_O θ) mX7_of [.ref (gm_am θ), .int x1, .int x3, .int 0] X (gm_Pi (fun r54 X54 => gx_C (gm_O θ) mX7_adds [.ref (gm_am θ), .int 3, .int r54] X54 (gm_Pv (fun X57 => gm_G θ K mX7_tells (gm_Pv P) 60 [(0, .ref (gm_am θ)), (1, .int x1), (2, .int x2), (3, .int x3)] [] X57))))))))) : gm_G θ K mX7_tells (gm_Pv P) 29 [(0, .ref (gm_am θ)), (1, .int x1), (2, .int x2), (3, .int x3)] [] X := by
  refine gx_iload_n h 3 rfl dX7_tells_29 ?_
  refine gx_aload_n h 0 rfl dX7_tells_30 ?_
  refine gm_get1 h rfl dX7_tells_31 ?_
  refine gx_iload_n h 1 rfl dX7_tells_34 ?_
  refine gm_ld1 h k.1 dX7_tells_35 ?_
  replace k := k.2
  refine gx_icmp_ge (tgt := 66) h (by decide) dX7_tells_36 (fun c => ?_) (fun c => ?_)
  · replace k := k.1 c
    refine gx_iconst (v := 0) h dX7_tells_66 (by decide) ?_
    refine gx_istore_n (L' := [(3, .int 0), (0, .ref (gm_am θ)), (1, .int x1), (2, .int x2)]) h (by decide) rfl dX7_tells_67 ?_
    exact gx_sub [1, 2, 3, 0] rfl k
  · replace k := k.2 c
    refine gx_aload_n h 0 rfl dX7_tells_39 ?_
    refine gm_get14 h rfl dX7_tells_40 ?_
    refine gx_iload_n h 3 rfl dX7_tells_43 ?_
    refine gm_ld14 h k.1 dX7_tells_44 ?_
    replace k := k.2
    refine gx_if_ge (tgt := 60) h (by decide) dX7_tells_45 (fun c => ?_) (fun c => ?_)
    · replace k := k.1 c
      exact k
    · replace k := k.2 c
      refine gx_aload_n h 0 rfl dX7_tells_48 ?_
      refine gx_iconst (v := 3) h dX7_tells_49 (by decide) ?_
      refine gx_aload_n h 0 rfl dX7_tells_50 ?_
      refine gx_iload_n h 1 rfl dX7_tells_51 ?_
      refine gx_iload_n h 3 rfl dX7_tells_52 ?_
      refine gx_iconst (v := 0) h dX7_tells_53 (by decide) ?_
      refine gm_c_of h rfl ⟨Nat.le_of_ble_eq_true rfl, Nat.le_of_ble_eq_true rfl⟩ (Nat.le_of_ble_eq_true rfl) dX7_tells_54 (gx_C.mono k ?_)
      rintro _ X54 ⟨r54, rfl, k⟩
      refine ⟨r54, rfl, ?_⟩
      refine gm_c_adds h rfl ⟨Nat.le_of_ble_eq_true rfl, Nat.le_of_ble_eq_true rfl⟩ (Nat.le_of_ble_eq_true rfl) dX7_tells_57 (gx_C.mono k ?_)
      rintro _ X57 ⟨rfl, k⟩
      refine ⟨rfl, ?_⟩
      exact k
theorem bm_tells_60 {θ : gm_T} {K : gx_K} {P : gm_X → Prop} {X : gm_X} {x1 x2 x3 : Int32} (h : gm_K θ K mX7_tells) (k : gm_G θ K mX7_tells (gm_Pv P) 29 [(0, .ref (gm_am θ)), (1, .int x1), (2, .int x2), (3, .int (x3 + 1))] [] X) : gm_G θ K mX7_tells (gm_Pv P) 60 [(0, .ref (gm_am θ)), (1, .int x1), (2, .int x2), (3, .int x3)] [] X := by
  refine gx_iinc (v := x3 + 1) (L' := [(3, .int (x3 + 1)), (0, .ref (gm_am θ)), (1, .int x1), (2, .int x2)]) h 3 rfl rfl (by decide) rfl dX7_tells_60 ?_
  refine gx_goto (tgt := 29) h (by decide) dX7_tells_63 ?_
  exact gx_sub [1, 2, 3, 0] rfl k
theorem bm_tells_68 {θ : gm_T} {K : gx_K} {P : gm_X → Prop} {X : gm_X} {x1 x2 x3 : Int32} (h : gm_K θ K mX7_tells) (k : vp_in x1 11 ∧ (((X.2 1 x1.toNatClampNeg) ≤ x3 → gm_G θ K mX7_tells (gm_Pv P) 196 [(0, .ref (gm_am θ)), (2, .int x2), (3, .int 0)] [] X) ∧ (¬ (X.2 1 x1.toNatClampNeg) ≤ x3 → vp_in x3 30 ∧ ((0 ≤ (X.2 14 x3.toNatClampNeg) → gx_C (gm_O θ) mX7_of [.ref (gm_am θ), .int x1, .int x3, .int 0] X (gm_Pi (fun r106 X106 => vp_in (X.1 20) 30 ∧ ∀ X109, X109 = gm_pA X106 23 (X.1 20).toNatClampNeg r106 → gx_C (gm_O θ) mX7_of [.ref (gm_am θ), .int x2, .int (X.2 14 x3.toNatClampNeg), .int 0] X109 (gm_Pi (fun r123 X123 => vp_in (X109.1 20) 30 ∧ ∀ X126, X126 = gm_pA X123 24 (X109.1 20).toNatClampNeg r123 → ∀ X134, X134 = gm_pI X126 20 ((X126.1 20) + 1) → gx_C (gm_O θ) mX7_isLike [.ref (gm_am θ), .int x1, .int x3, .int x2, .int (X.2 14 x3.toNatClampNeg), .int 3] X134 (gm_Pi (fun r144 X144 => ((r144 = 0 → gx_C (gm_O θ) mX7_of [.ref (gm_am θ), .int x1, .int x3, .int 0] X144 (gm_Pi (fun r156 X156 => gx_C (gm_O θ) mX7_adds [.ref (gm_am θ), .int 0, .int r156] X156 (gm_Pv (fun X159 => gm_G θ K mX7_tells (gm_Pv P) 162 [(0, .ref (gm_am θ)), (1, .int x1), (2, .int x2), (3, .int x3), (4, .int (X.2 14 x3.toNatClampNeg))] [] X159))))) ∧ (¬ r144 = 0 → gm_G θ K mX7_tells (gm_Pv P) 162 [(0, .ref (gm_am θ)), (1, .int x1), (2, .int x2), (3, .int x3), (4, .int (X.2 14 x3.toNatClampNeg))] [] X144))))))))) ∧ (¬ 0 ≤ (X.2 14 x3.toNatClampNeg) → gm_G θ K mX7_tells (gm_Pv P) 188 [(0, .ref (gm_am θ)), (1, .int x1), (2, .int x2), (3, .int x3)] [] X))))) : gm_G θ K mX7_tells (gm_Pv P) 68 [(0, .ref (gm_am θ)), (1, .int x1), (2, .int x2), (3, .int x3)] [] X := by
  refine gx_iload_n h 3 rfl dX7_tells_68 ?_
  refine gx_aload_n h 0 rfl dX7_tells_69 ?_
  refine gm_get1 h rfl dX7_tells_70 ?_
  refine gx_iload_n h 1 rfl dX7_tells_73 ?_
  refine gm_ld1 h k.1 dX7_tells_74 ?_
  replace k := k.2
  refine gx_icmp_ge (tgt := 194) h (by decide) dX7_tells_75 (fun c => ?_) (fun c => ?_)
  · replace k := k.1 c
    refine gx_iconst (v := 0) h dX7_tells_194 (by decide) ?_
    refine gx_istore_n (L' := [(3, .int 0), (0, .ref (gm_am θ)), (1, .int x1), (2, .int x2)]) h (by decide) rfl dX7_tells_195 ?_
    exact gx_sub [1, 3, 0] rfl k
  · replace k := k.2 c
    refine gx_aload_n h 0 rfl dX7_tells_78 ?_
    refine gm_get14 h rfl dX7_tells_79 ?_
    refine gx_iload_n h 3 rfl dX7_tells_82 ?_
    refine gm_ld14 h k.1 dX7_tells_83 ?_
    replace k := k.2
    refine gx_istore (L' := [(4, .int (X.2 14 x3.toNatClampNeg)), (0, .ref (gm_am θ)), (1, .int x1), (2, .int x2), (3, .int x3)]) h (by decide) rfl dX7_tells_84 ?_
    refine gx_iload h 0 rfl dX7_tells_86 ?_
    refine gx_if_ge (tgt := 94) h (by decide) dX7_tells_88 (fun c => ?_) (fun c => ?_)
    · replace k := k.1 c
      refine gx_aload_n h 1 rfl dX7_tells_94 ?_
      refine gm_get23 h rfl dX7_tells_95 ?_
      refine gx_aload_n h 1 rfl dX7_tells_98 ?_
      refine gm_get20 h rfl dX7_tells_99 ?_
      refine gx_aload_n h 1 rfl dX7_tells_102 ?_
      refine gx_iload_n h 2 rfl dX7_tells_103 ?_
      refine gx_iload_n h 4 rfl dX7_tells_104 ?_
      refine gx_iconst (v := 0) h dX7_tells_105 (by decide) ?_
      refine gm_c_of h rfl ⟨Nat.le_of_ble_eq_true rfl, Nat.le_of_ble_eq_true rfl⟩ (Nat.le_of_ble_eq_true rfl) dX7_tells_106 (gx_C.mono k ?_)
      rintro _ X106 ⟨r106, rfl, k⟩
      refine ⟨r106, rfl, ?_⟩
      refine gm_st23 h k.1 dX7_tells_109 ?_
      generalize hz : gm_pA X106 23 (X.1 20).toNatClampNeg r106 = X109
      replace k := k.2 X109 hz.symm
      refine gx_aload_n h 1 rfl dX7_tells_110 ?_
      refine gm_get24 h rfl dX7_tells_111 ?_
      refine gx_aload_n h 1 rfl dX7_tells_114 ?_
      refine gm_get20 h rfl dX7_tells_115 ?_
      refine gx_aload_n h 1 rfl dX7_tells_118 ?_
      refine gx_iload_n h 3 rfl dX7_tells_119 ?_
      refine gx_iload h 0 rfl dX7_tells_120 ?_
      refine gx_iconst (v := 0) h dX7_tells_122 (by decide) ?_
      refine gm_c_of h rfl ⟨Nat.le_of_ble_eq_true rfl, Nat.le_of_ble_eq_true rfl⟩ (Nat.le_of_ble_eq_true rfl) dX7_tells_123 (gx_C.mono k ?_)
      rintro _ X123 ⟨r123, rfl, k⟩
      refine ⟨r123, rfl, ?_⟩
      refine gm_st24 h k.1 dX7_tells_126 ?_
      generalize hz : gm_pA X123 24 (X109.1 20).toNatClampNeg r123 = X126
      replace k := k.2 X126 hz.symm
      refine gx_aload_n h 1 rfl dX7_tells_127 ?_
      refine gx_dup h rfl dX7_tells_128 ?_
      refine gm_get20 h rfl dX7_tells_129 ?_
      refine gx_iconst (v := 1) h dX7_tells_132 (by decide) ?_
      refine gx_iadd h dX7_tells_133 ?_
      refine gm_put20 h rfl dX7_tells_134 ?_
      generalize hz : gm_pI X126 20 ((X126.1 20) + 1) = X134
      replace k := k X134 hz.symm
      refine gx_aload_n h 1 rfl dX7_tells_137 ?_
      refine gx_iload_n h 2 rfl dX7_tells_138 ?_
      refine gx_iload_n h 4 rfl dX7_tells_139 ?_
      refine gx_iload_n h 3 rfl dX7_tells_140 ?_
      refine gx_iload h 0 rfl dX7_tells_141 ?_
      refine gx_iconst (v := 3) h dX7_tells_143 (by decide) ?_
      refine gm_c_isLike h rfl ⟨Nat.le_of_ble_eq_true rfl, Nat.le_of_ble_eq_true rfl⟩ (Nat.le_of_ble_eq_true rfl) dX7_tells_144 (gx_C.mono k ?_)
      rintro _ X144 ⟨r144, rfl, k⟩
      refine ⟨r144, rfl, ?_⟩
      refine gx_if_ne (tgt := 162) h (by decide) dX7_tells_147 (fun c => ?_) (fun c => ?_)
      · replace k := k.2 c
        exact gx_sub [1, 2, 3, 4, 0] rfl k
      · replace k := k.1 c
        refine gx_aload_n h 1 rfl dX7_tells_150 ?_
        refine gx_iconst (v := 0) h dX7_tells_151 (by decide) ?_
        refine gx_aload_n h 1 rfl dX7_tells_152 ?_
        refine gx_iload_n h 2 rfl dX7_tells_153 ?_
        refine gx_iload_n h 4 rfl dX7_tells_154 ?_
        refine gx_iconst (v := 0) h dX7_tells_155 (by decide) ?_
        refine gm_c_of h rfl ⟨Nat.le_of_ble_eq_true rfl, Nat.le_of_ble_eq_true rfl⟩ (Nat.le_of_ble_eq_true rfl) dX7_tells_156 (gx_C.mono k ?_)
        rintro _ X156 ⟨r156, rfl, k⟩
        refine ⟨r156, rfl, ?_⟩
        refine gm_c_adds h rfl ⟨Nat.le_of_ble_eq_true rfl, Nat.le_of_ble_eq_true rfl⟩ (Nat.le_of_ble_eq_true rfl) dX7_tells_159 (gx_C.mono k ?_)
        rintro _ X159 ⟨rfl, k⟩
        refine ⟨rfl, ?_⟩
        exact gx_sub [1, 2, 3, 4, 0] rfl k
    · replace k := k.2 c
      refine gx_goto (tgt := 188) h (by decide) dX7_tells_91 ?_
      exact gx_sub [1, 2, 3, 4] rfl k
theorem bm_tells_162 {θ : gm_T} {K : gx_K} {P : gm_X → Prop} {X : gm_X} {x1 x2 x3 x4 : Int32} (h : gm_K θ K mX7_tells) (k : gx_C (gm_O θ) mX7_isLike [.ref (gm_am θ), .int x1, .int x3, .int x2, .int x4, .int 10] X (gm_Pi (fun r170 X170 => ((r170 = 0 → gx_C (gm_O θ) mX7_of [.ref (gm_am θ), .int x1, .int x3, .int 0] X170 (gm_Pi (fun r182 X182 => gx_C (gm_O θ) mX7_adds [.ref (gm_am θ), .int 1, .int r182] X182 (gm_Pv (fun X185 => gm_G θ K mX7_tells (gm_Pv P) 188 [(0, .ref (gm_am θ)), (1, .int x1), (2, .int x2), (3, .int x3)] [] X185))))) ∧ (¬ r170 = 0 → gm_G θ K mX7_tells (gm_Pv P) 188 [(0, .ref (gm_am θ)), (1, .int x1), (2, .int x2), (3, .int x3)] [] X170))))) : gm_G θ K mX7_tells (gm_Pv P) 162 [(0, .ref (gm_am θ)), (1, .int x1), (2, .int x2), (3, .int x3), (4, .int x4)] [] X := by
  refine gx_aload_n h 0 rfl dX7_tells_162 ?_
  refine gx_iload_n h 1 rfl dX7_tells_163 ?_
  refine gx_iload_n h 3 rfl dX7_tells_164 ?_
  refine gx_iload_n h 2 rfl dX7_tells_165 ?_
  refine gx_iload h 4 rfl dX7_tells_166 ?_
  refine gx_bipush (v := 10) h dX7_tells_168 (by decide) ?_
  refine gm_c_isLike h rfl ⟨Nat.le_of_ble_eq_true rfl, Nat.le_of_ble_eq_true rfl⟩ (Nat.le_of_ble_eq_true rfl) dX7_tells_170 (gx_C.mono k ?_)
  rintro _ X170 ⟨r170, rfl, k⟩
  refine ⟨r170, rfl, ?_⟩
  refine gx_if_ne (tgt := 188) h (by decide) dX7_tells_173 (fun c => ?_) (fun c => ?_)
  · replace k := k.2 c
    exact gx_sub [0, 1, 2, 3] rfl k
  · replace k := k.1 c
    refine gx_aload_n h 0 rfl dX7_tells_176 ?_
    refine gx_iconst (v := 1) h dX7_tells_177 (by decide) ?_
    refine gx_aload_n h 0 rfl dX7_tells_178 ?_
    refine gx_iload_n h 1 rfl dX7_tells_179 ?_
    refine gx_iload_n h 3 rfl dX7_tells_180 ?_
    refine gx_iconst (v := 0) h dX7_tells_181 (by decide) ?_
    refine gm_c_of h rfl ⟨Nat.le_of_ble_eq_true rfl, Nat.le_of_ble_eq_true rfl⟩ (Nat.le_of_ble_eq_true rfl) dX7_tells_182 (gx_C.mono k ?_)
    rintro _ X182 ⟨r182, rfl, k⟩
    refine ⟨r182, rfl, ?_⟩
    refine gm_c_adds h rfl ⟨Nat.le_of_ble_eq_true rfl, Nat.le_of_ble_eq_true rfl⟩ (Nat.le_of_ble_eq_true rfl) dX7_tells_185 (gx_C.mono k ?_)
    rintro _ X185 ⟨rfl, k⟩
    refine ⟨rfl, ?_⟩
    exact gx_sub [0, 1, 2, 3] rfl k
theorem bm_tells_188 {θ : gm_T} {K : gx_K} {P : gm_X → Prop} {X : gm_X} {x1 x2 x3 : Int32} (h : gm_K θ K mX7_tells) (k : gm_G θ K mX7_tells (gm_Pv P) 68 [(0, .ref (gm_am θ)), (1, .int x1), (2, .int x2), (3, .int (x3 + 1))] [] X) : gm_G θ K mX7_tells (gm_Pv P) 188 [(0, .ref (gm_am θ)), (1, .int x1), (2, .int x2), (3, .int x3)] [] X := by
  refine gx_iinc (v := x3 + 1) (L' := [(3, .int (x3 + 1)), (0, .ref (gm_am θ)), (1, .int x1), (2, .int x2)]) h 3 rfl rfl (by decide) rfl dX7_tells_188 ?_
  refine gx_goto (tgt := 68) h (by decide) dX7_tells_191 ?_
  exact gx_sub [1, 2, 3, 0] rfl k
theorem bm_tells_196 {θ : gm_T} {K : gx_K} {P : gm_X → Prop} {X : gm_X} {x2 x3 : Int32} (h : gm_K θ K mX7_tells) (k : vp_in x2 11 ∧ (((X.2 1 x2.toNatClampNeg) ≤ x3 → P X) ∧ (¬ (X.2 1 x2.toNatClampNeg) ≤ x3 → vp_in (30 + x3) 60 ∧ vp_in (X.2 11 (30 + x3).toNatClampNeg) 30 ∧ ((0 ≤ (X.2 15 (X.2 11 (30 + x3).toNatClampNeg).toNatClampNeg) → gm_G θ K mX7_tells (gm_Pv P) 243 [(0, .ref (gm_am θ)), (2, .int x2), (3, .int x3)] [] X) ∧ (¬ 0 ≤ (X.2 15 (X.2 11 (30 + x3).toNatClampNeg).toNatClampNeg) → vp_in (30 + x3) 60 ∧ gx_C (gm_O θ) mX7_of [.ref (gm_am θ), .int x2, .int (X.2 11 (30 + x3).toNatClampNeg), .int 0] X (gm_Pi (fun r237 X237 => gx_C (gm_O θ) mX7_adds [.ref (gm_am θ), .int 2, .int r237] X237 (gm_Pv (fun X240 => gm_G θ K mX7_tells (gm_Pv P) 243 [(0, .ref (gm_am θ)), (2, .int x2), (3, .int x3)] [] X240))))))))) : gm_G θ K mX7_tells (gm_Pv P) 196 [(0, .ref (gm_am θ)), (2, .int x2), (3, .int x3)] [] X := by
  refine gx_iload_n h 2 rfl dX7_tells_196 ?_
  refine gx_aload_n h 0 rfl dX7_tells_197 ?_
  refine gm_get1 h rfl dX7_tells_198 ?_
  refine gx_iload_n h 1 rfl dX7_tells_201 ?_
  refine gm_ld1 h k.1 dX7_tells_202 ?_
  replace k := k.2
  refine gx_icmp_ge (tgt := 249) h (by decide) dX7_tells_203 (fun c => ?_) (fun c => ?_)
  · replace k := k.1 c
    exact gx_vret h rfl dX7_tells_249 ⟨rfl, k⟩
  · replace k := k.2 c
    refine gx_aload_n h 0 rfl dX7_tells_206 ?_
    refine gm_get15 h rfl dX7_tells_207 ?_
    refine gx_aload_n h 0 rfl dX7_tells_210 ?_
    refine gm_get11 h rfl dX7_tells_211 ?_
    refine gx_bipush (v := 30) h dX7_tells_214 (by decide) ?_
    refine gx_iload_n h 2 rfl dX7_tells_216 ?_
    refine gx_iadd h dX7_tells_217 ?_
    refine gm_ld11 h k.1 dX7_tells_218 ?_
    replace k := k.2
    refine gm_ld15 h k.1 dX7_tells_219 ?_
    replace k := k.2
    refine gx_if_ge (tgt := 243) h (by decide) dX7_tells_220 (fun c => ?_) (fun c => ?_)
    · replace k := k.1 c
      exact k
    · replace k := k.2 c
      refine gx_aload_n h 0 rfl dX7_tells_223 ?_
      refine gx_iconst (v := 2) h dX7_tells_224 (by decide) ?_
      refine gx_aload_n h 0 rfl dX7_tells_225 ?_
      refine gx_iload_n h 1 rfl dX7_tells_226 ?_
      refine gx_aload_n h 0 rfl dX7_tells_227 ?_
      refine gm_get11 h rfl dX7_tells_228 ?_
      refine gx_bipush (v := 30) h dX7_tells_231 (by decide) ?_
      refine gx_iload_n h 2 rfl dX7_tells_233 ?_
      refine gx_iadd h dX7_tells_234 ?_
      refine gm_ld11 h k.1 dX7_tells_235 ?_
      replace k := k.2
      refine gx_iconst (v := 0) h dX7_tells_236 (by decide) ?_
      refine gm_c_of h rfl ⟨Nat.le_of_ble_eq_true rfl, Nat.le_of_ble_eq_true rfl⟩ (Nat.le_of_ble_eq_true rfl) dX7_tells_237 (gx_C.mono k ?_)
      rintro _ X237 ⟨r237, rfl, k⟩
      refine ⟨r237, rfl, ?_⟩
      refine gm_c_adds h rfl ⟨Nat.le_of_ble_eq_true rfl, Nat.le_of_ble_eq_true rfl⟩ (Nat.le_of_ble_eq_true rfl) dX7_tells_240 (gx_C.mono k ?_)
      rintro _ X240 ⟨rfl, k⟩
      refine ⟨rfl, ?_⟩
      exact k
theorem bm_tells_243 {θ : gm_T} {K : gx_K} {P : gm_X → Prop} {X : gm_X} {x2 x3 : Int32} (h : gm_K θ K mX7_tells) (k : gm_G θ K mX7_tells (gm_Pv P) 196 [(0, .ref (gm_am θ)), (2, .int x2), (3, .int (x3 + 1))] [] X) : gm_G θ K mX7_tells (gm_Pv P) 243 [(0, .ref (gm_am θ)), (2, .int x2), (3, .int x3)] [] X := by
  refine gx_iinc (v := x3 + 1) (L' := [(3, .int (x3 + 1)), (0, .ref (gm_am θ)), (2, .int x2)]) h 2 rfl rfl (by decide) rfl dX7_tells_243 ?_
  refine gx_goto (tgt := 196) h (by decide) dX7_tells_246 ?_
  exact gx_sub [1, 2, 0] rfl k
/-! adds -/
theorem em_adds {θ : gm_T} {P : gm_X → Prop} {X : gm_X} {x1 : Int32} {x2 : Int32} (body : ∀ K, gm_K θ K mX7_adds → gm_G θ K mX7_adds (gm_Pv P) 0 [(0, .ref (gm_am θ)), (1, .int x1), (2, .int x2)] [] X) : gx_C (gm_O θ) mX7_adds [.ref (gm_am θ), .int x1, .int x2] X (gm_Pv P) :=
  gx_C.intro (gm_z θ) (by decide) (Nat.le_of_ble_eq_true rfl) body
theorem bm_adds_0 {θ : gm_T} {K : gx_K} {P : gm_X → Prop} {X : gm_X} {x1 x2 : Int32} (h : gm_K θ K mX7_adds) (k : vp_in (X.1 21) 130 ∧ ∀ X9, X9 = gm_pA X 25 (X.1 21).toNatClampNeg x1 → vp_in (X9.1 21) 130 ∧ ∀ X19, X19 = gm_pA X9 26 (X9.1 21).toNatClampNeg x2 → vp_in x1 4 ∧ vp_in (X19.1 21) 130 ∧ ∀ X34, X34 = gm_pA X19 27 (X19.1 21).toNatClampNeg (X19.2 7 x1.toNatClampNeg) → ∀ X42, X42 = gm_pI X34 21 ((X34.1 21) + 1) → P X42) : gm_G θ K mX7_adds (gm_Pv P) 0 [(0, .ref (gm_am θ)), (1, .int x1), (2, .int x2)] [] X := by
  refine gx_aload_n h 0 rfl dX7_adds_0 ?_
  refine gm_get25 h rfl dX7_adds_1 ?_
  refine gx_aload_n h 0 rfl dX7_adds_4 ?_
  refine gm_get21 h rfl dX7_adds_5 ?_
  refine gx_iload_n h 1 rfl dX7_adds_8 ?_
  refine gm_st25 h k.1 dX7_adds_9 ?_
  generalize hz : gm_pA X 25 (X.1 21).toNatClampNeg x1 = X9
  replace k := k.2 X9 hz.symm
  refine gx_aload_n h 0 rfl dX7_adds_10 ?_
  refine gm_get26 h rfl dX7_adds_11 ?_
  refine gx_aload_n h 0 rfl dX7_adds_14 ?_
  refine gm_get21 h rfl dX7_adds_15 ?_
  refine gx_iload_n h 2 rfl dX7_adds_18 ?_
  refine gm_st26 h k.1 dX7_adds_19 ?_
  generalize hz : gm_pA X9 26 (X9.1 21).toNatClampNeg x2 = X19
  replace k := k.2 X19 hz.symm
  refine gx_aload_n h 0 rfl dX7_adds_20 ?_
  refine gm_get27 h rfl dX7_adds_21 ?_
  refine gx_aload_n h 0 rfl dX7_adds_24 ?_
  refine gm_get21 h rfl dX7_adds_25 ?_
  refine gx_aload_n h 0 rfl dX7_adds_28 ?_
  refine gm_get7 h rfl dX7_adds_29 ?_
  refine gx_iload_n h 1 rfl dX7_adds_32 ?_
  refine gm_ld7 h k.1 dX7_adds_33 ?_
  replace k := k.2
  refine gm_st27 h k.1 dX7_adds_34 ?_
  generalize hz : gm_pA X19 27 (X19.1 21).toNatClampNeg (X19.2 7 x1.toNatClampNeg) = X34
  replace k := k.2 X34 hz.symm
  refine gx_aload_n h 0 rfl dX7_adds_35 ?_
  refine gx_dup h rfl dX7_adds_36 ?_
  refine gm_get21 h rfl dX7_adds_37 ?_
  refine gx_iconst (v := 1) h dX7_adds_40 (by decide) ?_
  refine gx_iadd h dX7_adds_41 ?_
  refine gm_put21 h rfl dX7_adds_42 ?_
  generalize hz : gm_pI X34 21 ((X34.1 21) + 1) = X42
  replace k := k X42 hz.symm
  exact gx_vret h rfl dX7_adds_45 ⟨rfl, k⟩
/-! pair -/
theorem em_pair {θ : gm_T} {P : Int32 → gm_X → Prop} {X : gm_X} {x1 : Int32} {x2 : Int32} (body : ∀ K, gm_K θ K mX7_pair → gm_G θ K mX7_pair (gm_Pi P) 0 [(0, .ref (gm_am θ)), (1, .int x1), (2, .int x2)] [] X) : gx_C (gm_O θ) mX7_pair [.ref (gm_am θ), .int x1, .int x2] X (gm_Pi P) :=
  gx_C.intro (gm_z θ) (by decide) (Nat.le_of_ble_eq_true rfl) body
theorem bm_pair_0 {θ : gm_T} {K : gx_K} {P : Int32 → gm_X → Prop} {X : gm_X} {x1 x2 : Int32} (h : gm_K θ K mX7_pair) (k : gx_C (gm_O θ) mX7_in [.int x1, .int 0, .int ((X.1 20) - 1)] X (gm_Pi (fun r8 X8 => ((r8 = 0 → gx_C (gm_O θ) mX7_found0 [.ref (gm_am θ), .int (-6)] X8 (gm_Pi (fun r17 X17 => P r17 X17))) ∧ (¬ r8 = 0 → ((x2 = 0 → vp_in x1 30 ∧ P (X8.2 23 x1.toNatClampNeg) X8) ∧ (¬ x2 = 0 → ((x2 = 1 → vp_in x1 30 ∧ P (X8.2 24 x1.toNatClampNeg) X8) ∧ (¬ x2 = 1 → gx_C (gm_O θ) mX7_found0 [.ref (gm_am θ), .int (-1)] X8 (gm_Pi (fun r50 X50 => P r50 X50))))))))))) : gm_G θ K mX7_pair (gm_Pi P) 0 [(0, .ref (gm_am θ)), (1, .int x1), (2, .int x2)] [] X := by
  refine gx_iload_n h 1 rfl dX7_pair_0 ?_
  refine gx_iconst (v := 0) h dX7_pair_1 (by decide) ?_
  refine gx_aload_n h 0 rfl dX7_pair_2 ?_
  refine gm_get20 h rfl dX7_pair_3 ?_
  refine gx_iconst (v := 1) h dX7_pair_6 (by decide) ?_
  refine gx_isub h dX7_pair_7 ?_
  refine gm_c_in h rfl ⟨Nat.le_of_ble_eq_true rfl, Nat.le_of_ble_eq_true rfl⟩ (Nat.le_of_ble_eq_true rfl) dX7_pair_8 (gx_C.mono k ?_)
  rintro _ X8 ⟨r8, rfl, k⟩
  refine ⟨r8, rfl, ?_⟩
  refine gx_if_ne (tgt := 21) h (by decide) dX7_pair_11 (fun c => ?_) (fun c => ?_)
  · replace k := k.2 c
    refine gx_iload_n h 2 rfl dX7_pair_21 ?_
    refine gx_if_ne (tgt := 34) h (by decide) dX7_pair_22 (fun c => ?_) (fun c => ?_)
    · replace k := k.2 c
      refine gx_iload_n h 2 rfl dX7_pair_34 ?_
      refine gx_iconst (v := 1) h dX7_pair_35 (by decide) ?_
      refine gx_icmp_ne (tgt := 48) h (by decide) dX7_pair_36 (fun c => ?_) (fun c => ?_)
      · replace k := k.2 c
        refine gx_aload_n h 0 rfl dX7_pair_48 ?_
        refine gx_iconst (v := (-1)) h dX7_pair_49 (by decide) ?_
        refine gm_c_found0 h rfl ⟨Nat.le_of_ble_eq_true rfl, Nat.le_of_ble_eq_true rfl⟩ (Nat.le_of_ble_eq_true rfl) dX7_pair_50 (gx_C.mono k ?_)
        rintro _ X50 ⟨r50, rfl, k⟩
        refine ⟨r50, rfl, ?_⟩
        exact gx_iret h rfl dX7_pair_53 ⟨_, rfl, k⟩
      · replace k := k.1 c
        refine gx_aload_n h 0 rfl dX7_pair_39 ?_
        refine gm_get24 h rfl dX7_pair_40 ?_
        refine gx_iload_n h 1 rfl dX7_pair_43 ?_
        refine gm_ld24 h k.1 dX7_pair_44 ?_
        replace k := k.2
        refine gx_goto (tgt := 53) h (by decide) dX7_pair_45 ?_
        exact gx_iret h rfl dX7_pair_53 ⟨_, rfl, k⟩
    · replace k := k.1 c
      refine gx_aload_n h 0 rfl dX7_pair_25 ?_
      refine gm_get23 h rfl dX7_pair_26 ?_
      refine gx_iload_n h 1 rfl dX7_pair_29 ?_
      refine gm_ld23 h k.1 dX7_pair_30 ?_
      replace k := k.2
      refine gx_goto (tgt := 53) h (by decide) dX7_pair_31 ?_
      exact gx_iret h rfl dX7_pair_53 ⟨_, rfl, k⟩
  · replace k := k.1 c
    refine gx_aload_n h 0 rfl dX7_pair_14 ?_
    refine gx_bipush (v := (-6)) h dX7_pair_15 (by decide) ?_
    refine gm_c_found0 h rfl ⟨Nat.le_of_ble_eq_true rfl, Nat.le_of_ble_eq_true rfl⟩ (Nat.le_of_ble_eq_true rfl) dX7_pair_17 (gx_C.mono k ?_)
    rintro _ X17 ⟨r17, rfl, k⟩
    refine ⟨r17, rfl, ?_⟩
    exact gx_iret h rfl dX7_pair_20 ⟨_, rfl, k⟩
/-! acts -/
theorem em_acts {θ : gm_T} {P : Int32 → gm_X → Prop} {X : gm_X}  (body : ∀ K, gm_K θ K mX7_acts → gm_G θ K mX7_acts (gm_Pi P) 0 [(0, .ref (gm_am θ))] [] X) : gx_C (gm_O θ) mX7_acts [.ref (gm_am θ)] X (gm_Pi P) :=
  gx_C.intro (gm_z θ) (by decide) (Nat.le_of_ble_eq_true rfl) body
theorem bm_acts_0 {θ : gm_T} {K : gx_K} {P : Int32 → gm_X → Prop} {X : gm_X} (h : gm_K θ K mX7_acts) (k : P (X.1 21) X) : gm_G θ K mX7_acts (gm_Pi P) 0 [(0, .ref (gm_am θ))] [] X := by
  refine gx_aload_n h 0 rfl dX7_acts_0 ?_
  refine gm_get21 h rfl dX7_acts_1 ?_
  exact gx_iret h rfl dX7_acts_4 ⟨_, rfl, k⟩
/-! act -/
theorem em_act {θ : gm_T} {P : Int32 → gm_X → Prop} {X : gm_X} {x1 : Int32} {x2 : Int32} (body : ∀ K, gm_K θ K mX7_act → gm_G θ K mX7_act (gm_Pi P) 0 [(0, .ref (gm_am θ)), (1, .int x1), (2, .int x2)] [] X) : gx_C (gm_O θ) mX7_act [.ref (gm_am θ), .int x1, .int x2] X (gm_Pi P) :=
  gx_C.intro (gm_z θ) (by decide) (Nat.le_of_ble_eq_true rfl) body
theorem bm_act_0 {θ : gm_T} {K : gx_K} {P : Int32 → gm_X → Prop} {X : gm_X} {x1 x2 : Int32} (h : gm_K θ K mX7_act) (k : gx_C (gm_O θ) mX7_in [.int x1, .int 0, .int ((X.1 21) - 1)] X (gm_Pi (fun r8 X8 => ((r8 = 0 → gx_C (gm_O θ) mX7_found0 [.ref (gm_am θ), .int (-6)] X8 (gm_Pi (fun r17 X17 => P r17 X17))) ∧ (¬ r8 = 0 → ((x2 = 0 → vp_in x1 130 ∧ P (X8.2 25 x1.toNatClampNeg) X8) ∧ (¬ x2 = 0 → ((x2 = 1 → vp_in x1 130 ∧ P (X8.2 26 x1.toNatClampNeg) X8) ∧ (¬ x2 = 1 → ((x2 = 2 → vp_in x1 130 ∧ P (X8.2 27 x1.toNatClampNeg) X8) ∧ (¬ x2 = 2 → gx_C (gm_O θ) mX7_found0 [.ref (gm_am θ), .int (-1)] X8 (gm_Pi (fun r64 X64 => P r64 X64))))))))))))) : gm_G θ K mX7_act (gm_Pi P) 0 [(0, .ref (gm_am θ)), (1, .int x1), (2, .int x2)] [] X := by
  refine gx_iload_n h 1 rfl dX7_act_0 ?_
  refine gx_iconst (v := 0) h dX7_act_1 (by decide) ?_
  refine gx_aload_n h 0 rfl dX7_act_2 ?_
  refine gm_get21 h rfl dX7_act_3 ?_
  refine gx_iconst (v := 1) h dX7_act_6 (by decide) ?_
  refine gx_isub h dX7_act_7 ?_
  refine gm_c_in h rfl ⟨Nat.le_of_ble_eq_true rfl, Nat.le_of_ble_eq_true rfl⟩ (Nat.le_of_ble_eq_true rfl) dX7_act_8 (gx_C.mono k ?_)
  rintro _ X8 ⟨r8, rfl, k⟩
  refine ⟨r8, rfl, ?_⟩
  refine gx_if_ne (tgt := 21) h (by decide) dX7_act_11 (fun c => ?_) (fun c => ?_)
  · replace k := k.2 c
    refine gx_iload_n h 2 rfl dX7_act_21 ?_
    refine gx_if_ne (tgt := 34) h (by decide) dX7_act_22 (fun c => ?_) (fun c => ?_)
    · replace k := k.2 c
      refine gx_iload_n h 2 rfl dX7_act_34 ?_
      refine gx_iconst (v := 1) h dX7_act_35 (by decide) ?_
      refine gx_icmp_ne (tgt := 48) h (by decide) dX7_act_36 (fun c => ?_) (fun c => ?_)
      · replace k := k.2 c
        refine gx_iload_n h 2 rfl dX7_act_48 ?_
        refine gx_iconst (v := 2) h dX7_act_49 (by decide) ?_
        refine gx_icmp_ne (tgt := 62) h (by decide) dX7_act_50 (fun c => ?_) (fun c => ?_)
        · replace k := k.2 c
          refine gx_aload_n h 0 rfl dX7_act_62 ?_
          refine gx_iconst (v := (-1)) h dX7_act_63 (by decide) ?_
          refine gm_c_found0 h rfl ⟨Nat.le_of_ble_eq_true rfl, Nat.le_of_ble_eq_true rfl⟩ (Nat.le_of_ble_eq_true rfl) dX7_act_64 (gx_C.mono k ?_)
          rintro _ X64 ⟨r64, rfl, k⟩
          refine ⟨r64, rfl, ?_⟩
          exact gx_iret h rfl dX7_act_67 ⟨_, rfl, k⟩
        · replace k := k.1 c
          refine gx_aload_n h 0 rfl dX7_act_53 ?_
          refine gm_get27 h rfl dX7_act_54 ?_
          refine gx_iload_n h 1 rfl dX7_act_57 ?_
          refine gm_ld27 h k.1 dX7_act_58 ?_
          replace k := k.2
          refine gx_goto (tgt := 67) h (by decide) dX7_act_59 ?_
          exact gx_iret h rfl dX7_act_67 ⟨_, rfl, k⟩
      · replace k := k.1 c
        refine gx_aload_n h 0 rfl dX7_act_39 ?_
        refine gm_get26 h rfl dX7_act_40 ?_
        refine gx_iload_n h 1 rfl dX7_act_43 ?_
        refine gm_ld26 h k.1 dX7_act_44 ?_
        replace k := k.2
        refine gx_goto (tgt := 67) h (by decide) dX7_act_45 ?_
        exact gx_iret h rfl dX7_act_67 ⟨_, rfl, k⟩
    · replace k := k.1 c
      refine gx_aload_n h 0 rfl dX7_act_25 ?_
      refine gm_get25 h rfl dX7_act_26 ?_
      refine gx_iload_n h 1 rfl dX7_act_29 ?_
      refine gm_ld25 h k.1 dX7_act_30 ?_
      replace k := k.2
      refine gx_goto (tgt := 67) h (by decide) dX7_act_31 ?_
      exact gx_iret h rfl dX7_act_67 ⟨_, rfl, k⟩
  · replace k := k.1 c
    refine gx_aload_n h 0 rfl dX7_act_14 ?_
    refine gx_bipush (v := (-6)) h dX7_act_15 (by decide) ?_
    refine gm_c_found0 h rfl ⟨Nat.le_of_ble_eq_true rfl, Nat.le_of_ble_eq_true rfl⟩ (Nat.le_of_ble_eq_true rfl) dX7_act_17 (gx_C.mono k ?_)
    rintro _ X17 ⟨r17, rfl, k⟩
    refine ⟨r17, rfl, ?_⟩
    exact gx_iret h rfl dX7_act_20 ⟨_, rfl, k⟩
