set_option maxRecDepth 100000
/-! feed -/
theorem em_feed {θ : gm_T} {P : Int32 → gm_X → Prop} {X : gm_X} {x1 : Int64} {x3 : Int32} (body : ∀ K, gm_K θ K mX7_feed → gm_G θ K mX7_feed (gm_Pi P) 0 [(0, .ref (gm_am θ)), (1, .long x1), (3, .int x3)] [] X) : gx_C (gm_O θ) mX7_feed [.ref (gm_am θ), .long x1, .int x3] X (gm_Pi P) :=
  gx_C.intro (gm_z θ) (by decide) (Nat.le_of_ble_eq_true rfl) body
theorem bm_feed_0 {θ : gm_T} {K : gx_K} {P : Int32 → gm_X → Prop} {X : gm_X} {x3 : Int32} {x1 : Int64} (h : gm_K θ K mX7_feed) (k : gx_C (gm_O θ) mX7_in [.int x3, .int 1, .int 8] X (gm_Pi (fun r4 X4 => ((r4 = 0 → gx_C (gm_O θ) mX7_found0 [.ref (gm_am θ), .int (-1)] X4 (gm_Pi (fun r12 X12 => P r12 X12))) ∧ (¬ r4 = 0 → ((((X4.1 4) + x3) ≤ 400 → gm_G θ K mX7_feed (gm_Pi P) 38 [(0, .ref (gm_am θ)), (1, .long x1), (3, .int x3), (4, .int 0)] [] X4) ∧ (¬ ((X4.1 4) + x3) ≤ 400 → gx_C (gm_O θ) mX7_found0 [.ref (gm_am θ), .int (-5)] X4 (gm_Pi (fun r31 X31 => P r31 X31))))))))) : gm_G θ K mX7_feed (gm_Pi P) 0 [(0, .ref (gm_am θ)), (1, .long x1), (3, .int x3)] [] X := by
  refine gx_iload_n h 2 rfl dX7_feed_0 ?_
  refine gx_iconst (v := 1) h dX7_feed_1 (by decide) ?_
  refine gx_bipush (v := 8) h dX7_feed_2 (by decide) ?_
  refine gm_c_in h rfl ⟨Nat.le_of_ble_eq_true rfl, Nat.le_of_ble_eq_true rfl⟩ (Nat.le_of_ble_eq_true rfl) dX7_feed_4 (gx_C.mono k ?_)
  rintro _ X4 ⟨r4, rfl, k⟩
  refine ⟨r4, rfl, ?_⟩
  refine gx_if_ne (tgt := 16) h (by decide) dX7_feed_7 (fun c => ?_) (fun c => ?_)
  · replace k := k.2 c
    refine gx_aload_n h 0 rfl dX7_feed_16 ?_
    refine gm_get4 h rfl dX7_feed_17 ?_
    refine gx_iload_n h 2 rfl dX7_feed_20 ?_
    refine gx_iadd h dX7_feed_21 ?_
    refine gx_sipush (v := 400) h dX7_feed_22 (by decide) ?_
    refine gx_icmp_le (tgt := 35) h (by decide) dX7_feed_25 (fun c => ?_) (fun c => ?_)
    · replace k := k.1 c
      refine gx_iconst (v := 0) h dX7_feed_35 (by decide) ?_
      refine gx_istore (L' := [(4, .int 0), (0, .ref (gm_am θ)), (1, .long x1), (3, .int x3)]) h (by decide) rfl dX7_feed_36 ?_
      exact gx_sub [1, 2, 3, 0] rfl k
    · replace k := k.2 c
      refine gx_aload_n h 0 rfl dX7_feed_28 ?_
      refine gx_bipush (v := (-5)) h dX7_feed_29 (by decide) ?_
      refine gm_c_found0 h rfl ⟨Nat.le_of_ble_eq_true rfl, Nat.le_of_ble_eq_true rfl⟩ (Nat.le_of_ble_eq_true rfl) dX7_feed_31 (gx_C.mono k ?_)
      rintro _ X31 ⟨r31, rfl, k⟩
      refine ⟨r31, rfl, ?_⟩
      exact gx_iret h rfl dX7_feed_34 ⟨_, rfl, k⟩
  · replace k := k.1 c
    refine gx_aload_n h 0 rfl dX7_feed_10 ?_
    refine gx_iconst (v := (-1)) h dX7_feed_11 (by decide) ?_
    refine gm_c_found0 h rfl ⟨Nat.le_of_ble_eq_true rfl, Nat.le_of_ble_eq_true rfl⟩ (Nat.le_of_ble_eq_true rfl) dX7_feed_12 (gx_C.mono k ?_)
    rintro _ X12 ⟨r12, rfl, k⟩
    refine ⟨r12, rfl, ?_⟩
    exact gx_iret h rfl dX7_feed_15 ⟨_, rfl, k⟩
theorem bm_feed_38 {θ : gm_T} {K : gx_K} {P : Int32 → gm_X → Prop} {X : gm_X} {x3 x4 : Int32} {x1 : Int64} (h : gm_K θ K mX7_feed) (k : ((x3 ≤ x4 → ∀ X81, X81 = gm_pI X 4 ((X.1 4) + x3) → P (X81.1 4) X81) ∧ (¬ x3 ≤ x4 → vp_in ((X.1 4) + x4) 400 ∧ ∀ X67, X67 = gm_pA X 3 ((X.1 4) + x4).toNatClampNeg (((x1 >>> ((8 * x4).toInt64 &&& 63)) &&& 255).toInt32) → gm_G θ K mX7_feed (gm_Pi P) 38 [(0, .ref (gm_am θ)), (1, .long x1), (3, .int x3), (4, .int (x4 + 1))] [] X67))) : gm_G θ K mX7_feed (gm_Pi P) 38 [(0, .ref (gm_am θ)), (1, .long x1), (3, .int x3), (4, .int x4)] [] X := by
  refine gx_iload h 3 rfl dX7_feed_38 ?_
  refine gx_iload_n h 2 rfl dX7_feed_40 ?_
  refine gx_icmp_ge (tgt := 74) h (by decide) dX7_feed_41 (fun c => ?_) (fun c => ?_)
  · replace k := k.1 c
    refine gx_aload_n h 0 rfl dX7_feed_74 ?_
    refine gx_dup h rfl dX7_feed_75 ?_
    refine gm_get4 h rfl dX7_feed_76 ?_
    refine gx_iload_n h 2 rfl dX7_feed_79 ?_
    refine gx_iadd h dX7_feed_80 ?_
    refine gm_put4 h rfl dX7_feed_81 ?_
    generalize hz : gm_pI X 4 ((X.1 4) + x3) = X81
    replace k := k X81 hz.symm
    refine gx_aload_n h 0 rfl dX7_feed_84 ?_
    refine gm_get4 h rfl dX7_feed_85 ?_
    exact gx_iret h rfl dX7_feed_88 ⟨_, rfl, k⟩
  · replace k := k.2 c
    refine gx_aload_n h 0 rfl dX7_feed_44 ?_
    refine gm_get3 h rfl dX7_feed_45 ?_
    refine gx_aload_n h 0 rfl dX7_feed_48 ?_
    refine gm_get4 h rfl dX7_feed_49 ?_
    refine gx_iload h 3 rfl dX7_feed_52 ?_
    refine gx_iadd h dX7_feed_54 ?_
    refine gx_lload_n h 1 rfl dX7_feed_55 ?_
    refine gx_bipush (v := 8) h dX7_feed_56 (by decide) ?_
    refine gx_iload h 3 rfl dX7_feed_58 ?_
    refine gx_imul h dX7_feed_60 ?_
    refine gx_lshr h dX7_feed_61 ?_
    refine gx_ldc2 (v := 255) h q1377 dX7_feed_62 ?_
    refine gx_land h dX7_feed_65 ?_
    refine gx_l2i h dX7_feed_66 ?_
    refine gm_st3 h k.1 dX7_feed_67 ?_
    generalize hz : gm_pA X 3 ((X.1 4) + x4).toNatClampNeg (((x1 >>> ((8 * x4).toInt64 &&& 63)) &&& 255).toInt32) = X67
    replace k := k.2 X67 hz.symm
    refine gx_iinc (v := x4 + 1) (L' := [(4, .int (x4 + 1)), (0, .ref (gm_am θ)), (1, .long x1), (3, .int x3)]) h 3 rfl rfl (by decide) rfl dX7_feed_68 ?_
    refine gx_goto (tgt := 38) h (by decide) dX7_feed_71 ?_
    exact gx_sub [1, 2, 3, 0] rfl k
/-! in -/
theorem em_in {θ : gm_T} {P : Int32 → gm_X → Prop} {X : gm_X} {x0 : Int32} {x1 : Int32} {x2 : Int32} (body : ∀ K, gm_K θ K mX7_in → gm_G θ K mX7_in (gm_Pi P) 0 [(0, .int x0), (1, .int x1), (2, .int x2)] [] X) : gx_C (gm_O θ) mX7_in [.int x0, .int x1, .int x2] X (gm_Pi P) :=
  gx_C.intro (gm_z θ) (by decide) (Nat.le_of_ble_eq_true rfl) body
theorem bm_in_0 {θ : gm_T} {K : gx_K} {P : Int32 → gm_X → Prop} {X : gm_X} {x0 x1 x2 : Int32} (h : gm_K θ K mX7_in) (k : ((x0 < x1 → gm_G θ K mX7_in (gm_Pi P) 14 [] [] X) ∧ (¬ x0 < x1 → ((x2 < x0 → gm_G θ K mX7_in (gm_Pi P) 14 [] [] X) ∧ (¬ x2 < x0 → P 1 X))))) : gm_G θ K mX7_in (gm_Pi P) 0 [(0, .int x0), (1, .int x1), (2, .int x2)] [] X := by
  refine gx_iload_n h 0 rfl dX7_in_0 ?_
  refine gx_iload_n h 1 rfl dX7_in_1 ?_
  refine gx_icmp_lt (tgt := 14) h (by decide) dX7_in_2 (fun c => ?_) (fun c => ?_)
  · replace k := k.1 c
    exact gx_sub [] rfl k
  · replace k := k.2 c
    refine gx_iload_n h 0 rfl dX7_in_5 ?_
    refine gx_iload_n h 2 rfl dX7_in_6 ?_
    refine gx_icmp_gt (tgt := 14) h (by decide) dX7_in_7 (fun c => ?_) (fun c => ?_)
    · replace k := k.1 c
      exact gx_sub [] rfl k
    · replace k := k.2 c
      refine gx_iconst (v := 1) h dX7_in_10 (by decide) ?_
      refine gx_goto (tgt := 15) h (by decide) dX7_in_11 ?_
      exact gx_zret h rfl rfl dX7_in_15 ⟨_, rfl, k⟩
theorem bm_in_14 {θ : gm_T} {K : gx_K} {P : Int32 → gm_X → Prop} {X : gm_X} (h : gm_K θ K mX7_in) (k : P 0 X) : gm_G θ K mX7_in (gm_Pi P) 14 [] [] X := by
  refine gx_iconst (v := 0) h dX7_in_14 (by decide) ?_
  exact gx_zret h rfl rfl dX7_in_15 ⟨_, rfl, k⟩
/-! found0 -/
theorem em_found0 {θ : gm_T} {P : Int32 → gm_X → Prop} {X : gm_X} {x1 : Int32} (body : ∀ K, gm_K θ K mX7_found0 → gm_G θ K mX7_found0 (gm_Pi P) 0 [(0, .ref (gm_am θ)), (1, .int x1)] [] X) : gx_C (gm_O θ) mX7_found0 [.ref (gm_am θ), .int x1] X (gm_Pi P) :=
  gx_C.intro (gm_z θ) (by decide) (Nat.le_of_ble_eq_true rfl) body
theorem bm_found0_0 {θ : gm_T} {K : gx_K} {P : Int32 → gm_X → Prop} {X : gm_X} {x1 : Int32} (h : gm_K θ K mX7_found0) (k : vp_in (-x1) 10 ∧ vp_in (-x1) 10 ∧ ∀ X10, X10 = gm_pA X 8 (-x1).toNatClampNeg ((X.2 8 (-x1).toNatClampNeg) + 1) → P x1 X10) : gm_G θ K mX7_found0 (gm_Pi P) 0 [(0, .ref (gm_am θ)), (1, .int x1)] [] X := by
  refine gx_aload_n h 0 rfl dX7_found0_0 ?_
  refine gm_get8 h rfl dX7_found0_1 ?_
  refine gx_iload_n h 1 rfl dX7_found0_4 ?_
  refine gx_ineg h dX7_found0_5 ?_
  refine gx_dup2 h rfl rfl dX7_found0_6 ?_
  refine gm_ld8 h k.1 dX7_found0_7 ?_
  replace k := k.2
  refine gx_iconst (v := 1) h dX7_found0_8 (by decide) ?_
  refine gx_iadd h dX7_found0_9 ?_
  refine gm_st8 h k.1 dX7_found0_10 ?_
  generalize hz : gm_pA X 8 (-x1).toNatClampNeg ((X.2 8 (-x1).toNatClampNeg) + 1) = X10
  replace k := k.2 X10 hz.symm
  refine gx_iload_n h 1 rfl dX7_found0_11 ?_
  exact gx_iret h rfl dX7_found0_12 ⟨_, rfl, k⟩
/-! read -/
theorem em_read {θ : gm_T} {P : Int32 → gm_X → Prop} {X : gm_X} {x1 : Int32} (body : ∀ K, gm_K θ K mX7_read → gm_G θ K mX7_read (gm_Pi P) 0 [(0, .ref (gm_am θ)), (1, .int x1)] [] X) : gx_C (gm_O θ) mX7_read [.ref (gm_am θ), .int x1] X (gm_Pi P) :=
  gx_C.intro (gm_z θ) (by decide) (Nat.le_of_ble_eq_true rfl) body
theorem bm_read_0 {θ : gm_T} {K : gx_K} {P : Int32 → gm_X → Prop} {X : gm_X} {x1 : Int32} (h : gm_K θ K mX7_read) (k : gx_C (gm_O θ) mX7_isPlace [.int x1] X (gm_Pi (fun r1 X1 => ((r1 = 0 → gx_C (gm_O θ) mX7_found0 [.ref (gm_am θ), .int (-1)] X1 (gm_Pi (fun r9 X9 => P r9 X9))) ∧ (¬ r1 = 0 → ∀ X20, X20 = gm_pI X1 4 0 → gx_C (gm_O θ) mX7_reads [.ref (gm_am θ), .int (X1.1 4)] X20 (gm_Pi (fun r25 X25 => ((r25 < 0 → gx_C (gm_O θ) mX7_copyAll [.ref (gm_am θ), .int 8, .int x1] X25 (gm_Pv (fun X53 => gm_G θ K mX7_read (gm_Pi P) 59 [(0, .ref (gm_am θ)), (1, .int x1), (4, .int 0)] [] X53))) ∧ (¬ r25 < 0 → vp_in 9 10 ∧ vp_in 9 10 ∧ ∀ X43, X43 = gm_pA X25 8 (9 : Int32).toNatClampNeg ((X25.2 8 (9 : Int32).toNatClampNeg) + 1) → P ((-10) - r25) X43))))))))) : gm_G θ K mX7_read (gm_Pi P) 0 [(0, .ref (gm_am θ)), (1, .int x1)] [] X := by
  refine gx_iload_n h 1 rfl dX7_read_0 ?_
  refine gm_c_isPlace h rfl ⟨Nat.le_of_ble_eq_true rfl, Nat.le_of_ble_eq_true rfl⟩ (Nat.le_of_ble_eq_true rfl) dX7_read_1 (gx_C.mono k ?_)
  rintro _ X1 ⟨r1, rfl, k⟩
  refine ⟨r1, rfl, ?_⟩
  refine gx_if_ne (tgt := 13) h (by decide) dX7_read_4 (fun c => ?_) (fun c => ?_)
  · replace k := k.2 c
    refine gx_aload_n h 0 rfl dX7_read_13 ?_
    refine gm_get4 h rfl dX7_read_14 ?_
    refine gx_istore_n (L' := [(2, .int (X1.1 4)), (0, .ref (gm_am θ)), (1, .int x1)]) h (by decide) rfl dX7_read_17 ?_
    refine gx_aload_n h 1 rfl dX7_read_18 ?_
    refine gx_iconst (v := 0) h dX7_read_19 (by decide) ?_
    refine gm_put4 h rfl dX7_read_20 ?_
    generalize hz : gm_pI X1 4 0 = X20
    replace k := k X20 hz.symm
    refine gx_aload_n h 1 rfl dX7_read_23 ?_
    refine gx_iload_n h 0 rfl dX7_read_24 ?_
    refine gm_c_reads h rfl ⟨Nat.le_of_ble_eq_true rfl, Nat.le_of_ble_eq_true rfl⟩ (Nat.le_of_ble_eq_true rfl) dX7_read_25 (gx_C.mono k ?_)
    rintro _ X25 ⟨r25, rfl, k⟩
    refine ⟨r25, rfl, ?_⟩
    refine gx_istore_n (L' := [(3, .int r25), (2, .int (X1.1 4)), (0, .ref (gm_am θ)), (1, .int x1)]) h (by decide) rfl dX7_read_28 ?_
    refine gx_iload_n h 0 rfl dX7_read_29 ?_
    refine gx_if_lt (tgt := 49) h (by decide) dX7_read_30 (fun c => ?_) (fun c => ?_)
    · replace k := k.1 c
      refine gx_aload_n h 2 rfl dX7_read_49 ?_
      refine gx_bipush (v := 8) h dX7_read_50 (by decide) ?_
      refine gx_iload_n h 3 rfl dX7_read_52 ?_
      refine gm_c_copyAll h rfl ⟨Nat.le_of_ble_eq_true rfl, Nat.le_of_ble_eq_true rfl⟩ (Nat.le_of_ble_eq_true rfl) dX7_read_53 (gx_C.mono k ?_)
      rintro _ X53 ⟨rfl, k⟩
      refine ⟨rfl, ?_⟩
      refine gx_iconst (v := 0) h dX7_read_56 (by decide) ?_
      refine gx_istore (L' := [(4, .int 0), (3, .int r25), (2, .int (X1.1 4)), (0, .ref (gm_am θ)), (1, .int x1)]) h (by decide) rfl dX7_read_57 ?_
      exact gx_sub [3, 4, 0] rfl k
    · replace k := k.2 c
      refine gx_aload_n h 2 rfl dX7_read_33 ?_
      refine gm_get8 h rfl dX7_read_34 ?_
      refine gx_bipush (v := 9) h dX7_read_37 (by decide) ?_
      refine gx_dup2 h rfl rfl dX7_read_39 ?_
      refine gm_ld8 h k.1 dX7_read_40 ?_
      replace k := k.2
      refine gx_iconst (v := 1) h dX7_read_41 (by decide) ?_
      refine gx_iadd h dX7_read_42 ?_
      refine gm_st8 h k.1 dX7_read_43 ?_
      generalize hz : gm_pA X25 8 (9 : Int32).toNatClampNeg ((X25.2 8 (9 : Int32).toNatClampNeg) + 1) = X43
      replace k := k.2 X43 hz.symm
      refine gx_bipush (v := (-10)) h dX7_read_44 (by decide) ?_
      refine gx_iload_n h 0 rfl dX7_read_46 ?_
      refine gx_isub h dX7_read_47 ?_
      exact gx_iret h rfl dX7_read_48 ⟨_, rfl, k⟩
  · replace k := k.1 c
    refine gx_aload_n h 0 rfl dX7_read_7 ?_
    refine gx_iconst (v := (-1)) h dX7_read_8 (by decide) ?_
    refine gm_c_found0 h rfl ⟨Nat.le_of_ble_eq_true rfl, Nat.le_of_ble_eq_true rfl⟩ (Nat.le_of_ble_eq_true rfl) dX7_read_9 (gx_C.mono k ?_)
    rintro _ X9 ⟨r9, rfl, k⟩
    refine ⟨r9, rfl, ?_⟩
    exact gx_iret h rfl dX7_read_12 ⟨_, rfl, k⟩
theorem bm_read_59 {θ : gm_T} {K : gx_K} {P : Int32 → gm_X → Prop} {X : gm_X} {x1 x4 : Int32} (h : gm_K θ K mX7_read) (k : vp_in x1 11 ∧ (((X.2 1 x1.toNatClampNeg) ≤ x4 → vp_in x1 11 ∧ P (X.2 1 x1.toNatClampNeg) X) ∧ (¬ (X.2 1 x1.toNatClampNeg) ≤ x4 → gx_C (gm_O θ) mX7_set [.ref (gm_am θ), .int x1, .int x4, .int 0, .int (X.1 2)] X (gm_Pv (fun X79 => ∀ X89, X89 = gm_pI X79 2 ((X79.1 2) + 1) → gm_G θ K mX7_read (gm_Pi P) 59 [(0, .ref (gm_am θ)), (1, .int x1), (4, .int (x4 + 1))] [] X89))))) : gm_G θ K mX7_read (gm_Pi P) 59 [(0, .ref (gm_am θ)), (1, .int x1), (4, .int x4)] [] X := by
  refine gx_iload h 2 rfl dX7_read_59 ?_
  refine gx_aload_n h 0 rfl dX7_read_61 ?_
  refine gm_get1 h rfl dX7_read_62 ?_
  refine gx_iload_n h 1 rfl dX7_read_65 ?_
  refine gm_ld1 h k.1 dX7_read_66 ?_
  replace k := k.2
  refine gx_icmp_ge (tgt := 98) h (by decide) dX7_read_67 (fun c => ?_) (fun c => ?_)
  · replace k := k.1 c
    refine gx_aload_n h 0 rfl dX7_read_98 ?_
    refine gm_get1 h rfl dX7_read_99 ?_
    refine gx_iload_n h 1 rfl dX7_read_102 ?_
    refine gm_ld1 h k.1 dX7_read_103 ?_
    replace k := k.2
    exact gx_iret h rfl dX7_read_104 ⟨_, rfl, k⟩
  · replace k := k.2 c
    refine gx_aload_n h 0 rfl dX7_read_70 ?_
    refine gx_iload_n h 1 rfl dX7_read_71 ?_
    refine gx_iload h 2 rfl dX7_read_72 ?_
    refine gx_iconst (v := 0) h dX7_read_74 (by decide) ?_
    refine gx_aload_n h 0 rfl dX7_read_75 ?_
    refine gm_get2 h rfl dX7_read_76 ?_
    refine gm_c_set h rfl ⟨Nat.le_of_ble_eq_true rfl, Nat.le_of_ble_eq_true rfl⟩ (Nat.le_of_ble_eq_true rfl) dX7_read_79 (gx_C.mono k ?_)
    rintro _ X79 ⟨rfl, k⟩
    refine ⟨rfl, ?_⟩
    refine gx_aload_n h 0 rfl dX7_read_82 ?_
    refine gx_dup h rfl dX7_read_83 ?_
    refine gm_get2 h rfl dX7_read_84 ?_
    refine gx_iconst (v := 1) h dX7_read_87 (by decide) ?_
    refine gx_iadd h dX7_read_88 ?_
    refine gm_put2 h rfl dX7_read_89 ?_
    generalize hz : gm_pI X79 2 ((X79.1 2) + 1) = X89
    replace k := k X89 hz.symm
    refine gx_iinc (v := x4 + 1) (L' := [(4, .int (x4 + 1)), (0, .ref (gm_am θ)), (1, .int x1)]) h 2 rfl rfl (by decide) rfl dX7_read_92 ?_
    refine gx_goto (tgt := 59) h (by decide) dX7_read_95 ?_
    exact gx_sub [1, 2, 0] rfl k
/-! isPlace -/
theorem em_isPlace {θ : gm_T} {P : Int32 → gm_X → Prop} {X : gm_X} {x0 : Int32} (body : ∀ K, gm_K θ K mX7_isPlace → gm_G θ K mX7_isPlace (gm_Pi P) 0 [(0, .int x0)] [] X) : gx_C (gm_O θ) mX7_isPlace [.int x0] X (gm_Pi P) :=
  gx_C.intro (gm_z θ) (by decide) (Nat.le_of_ble_eq_true rfl) body
theorem bm_isPlace_0 {θ : gm_T} {K : gx_K} {P : Int32 → gm_X → Prop} {X : gm_X} {x0 : Int32} (h : gm_K θ K mX7_isPlace) (k : gx_C (gm_O θ) mX7_in [.int x0, .int 0, .int 7] X (gm_Pi (fun r4 X4 => narrow .boolean (.int r4) = .int r4 ∧ P r4 X4))) : gm_G θ K mX7_isPlace (gm_Pi P) 0 [(0, .int x0)] [] X := by
  refine gx_iload_n h 0 rfl dX7_isPlace_0 ?_
  refine gx_iconst (v := 0) h dX7_isPlace_1 (by decide) ?_
  refine gx_bipush (v := 7) h dX7_isPlace_2 (by decide) ?_
  refine gm_c_in h rfl ⟨Nat.le_of_ble_eq_true rfl, Nat.le_of_ble_eq_true rfl⟩ (Nat.le_of_ble_eq_true rfl) dX7_isPlace_4 (gx_C.mono k ?_)
  rintro _ X4 ⟨r4, rfl, k⟩
  refine ⟨r4, rfl, ?_⟩
  exact gx_zret h rfl k.1 dX7_isPlace_7 ⟨_, rfl, k.2⟩
/-! reads -/
theorem em_reads {θ : gm_T} {P : Int32 → gm_X → Prop} {X : gm_X} {x1 : Int32} (body : ∀ K, gm_K θ K mX7_reads → gm_G θ K mX7_reads (gm_Pi P) 0 [(0, .ref (gm_am θ)), (1, .int x1)] [] X) : gx_C (gm_O θ) mX7_reads [.ref (gm_am θ), .int x1] X (gm_Pi P) :=
  gx_C.intro (gm_z θ) (by decide) (Nat.le_of_ble_eq_true rfl) body
theorem bm_reads_0 {θ : gm_T} {K : gx_K} {P : Int32 → gm_X → Prop} {X : gm_X} {x1 : Int32} (h : gm_K θ K mX7_reads) (k : vp_in 8 11 ∧ ∀ X7, X7 = gm_pA X 1 (8 : Int32).toNatClampNeg 0 → gm_G θ K mX7_reads (gm_Pi P) 15 [(0, .ref (gm_am θ)), (1, .int x1), (2, .int 0), (3, .int 0), (4, .int 1)] [] X7) : gm_G θ K mX7_reads (gm_Pi P) 0 [(0, .ref (gm_am θ)), (1, .int x1)] [] X := by
  refine gx_aload_n h 0 rfl dX7_reads_0 ?_
  refine gm_get1 h rfl dX7_reads_1 ?_
  refine gx_bipush (v := 8) h dX7_reads_4 (by decide) ?_
  refine gx_iconst (v := 0) h dX7_reads_6 (by decide) ?_
  refine gm_st1 h k.1 dX7_reads_7 ?_
  generalize hz : gm_pA X 1 (8 : Int32).toNatClampNeg 0 = X7
  replace k := k.2 X7 hz.symm
  refine gx_iconst (v := 0) h dX7_reads_8 (by decide) ?_
  refine gx_istore_n (L' := [(2, .int 0), (0, .ref (gm_am θ)), (1, .int x1)]) h (by decide) rfl dX7_reads_9 ?_
  refine gx_iconst (v := 0) h dX7_reads_10 (by decide) ?_
  refine gx_istore_n (L' := [(3, .int 0), (2, .int 0), (0, .ref (gm_am θ)), (1, .int x1)]) h (by decide) rfl dX7_reads_11 ?_
  refine gx_iconst (v := 1) h dX7_reads_12 (by decide) ?_
  refine gx_istore (L' := [(4, .int 1), (3, .int 0), (2, .int 0), (0, .ref (gm_am θ)), (1, .int x1)]) h (by decide) rfl dX7_reads_13 ?_
  exact gx_sub [3, 4, 2, 1, 0] rfl k
theorem bm_reads_15 {θ : gm_T} {K : gx_K} {P : Int32 → gm_X → Prop} {X : gm_X} {x1 x2 x3 x4 : Int32} (h : gm_K θ K mX7_reads) (k : ((x4 = 0 → ((x2 = 0 → ((x3 = x1 → P (-1) X) ∧ (¬ x3 = x1 → gm_G θ K mX7_reads (gm_Pi P) 468 [(3, .int x3)] [] X))) ∧ (¬ x2 = 0 → gm_G θ K mX7_reads (gm_Pi P) 468 [(3, .int x3)] [] X))) ∧ (¬ x4 = 0 → vp_in 8 11 ∧ ∀ x5_27 : Int32, x5_27 = X.2 1 (8 : Int32).toNatClampNeg → gx_C (gm_O θ) mX7_at [.ref (gm_am θ), .int x3, .int x1] X (gm_Pi (fun r32 X32 => gx_C (gm_O θ) mX7_isLetter [.int r32] X32 (gm_Pi (fun r35 X35 => ((r35 = 0 → gm_G θ K mX7_reads (gm_Pi P) 54 [(3, .int x3)] [] X35) ∧ (¬ r35 = 0 → ((x5_27 = 30 → gm_G θ K mX7_reads (gm_Pi P) 54 [(3, .int x3)] [] X35) ∧ (¬ x5_27 = 30 → ((x2 < 12 → gx_C (gm_O θ) mX7_set [.ref (gm_am θ), .int 8, .int x5_27, .int 1, .int 0] X35 (gm_Pv (fun X66 => gx_C (gm_O θ) mX7_set [.ref (gm_am θ), .int 8, .int x5_27, .int 2, .int x2] X66 (gm_Pv (fun X76 => gx_C (gm_O θ) mX7_set [.ref (gm_am θ), .int 8, .int x5_27, .int 10, .int 0] X76 (gm_Pv (fun X87 => gx_C (gm_O θ) mX7_signs [.ref (gm_am θ), .int x5_27, .int x3, .int x1, .int 3, .int 6] X87 (gm_Pi (fun r98 X98 => ((0 ≤ r98 → vp_in 8 11 ∧ vp_in 8 11 ∧ ∀ X120, X120 = gm_pA X98 1 (8 : Int32).toNatClampNeg ((X98.2 1 (8 : Int32).toNatClampNeg) + 1) → ((x2 ≤ 0 → gm_G θ K mX7_reads (gm_Pi P) 195 [(0, .ref (gm_am θ)), (1, .int x1), (2, .int x2), (3, .int r98), (4, .int x4), (5, .int x5_27)] [] X120) ∧ (¬ x2 ≤ 0 → vp_in (x2 - 1) 13 ∧ gx_C (gm_O θ) mX7_of [.ref (gm_am θ), .int 8, .int (X120.2 9 (x2 - 1).toNatClampNeg), .int 1] X120 (gm_Pi (fun r137 X137 => ((r137 = 2 → vp_in (x2 - 1) 13 ∧ ∀ x7_154 : Int32, x7_154 = (X137.2 9 (x2 - 1).toNatClampNeg) + 1 → gm_G θ K mX7_reads (gm_Pi P) 156 [(0, .ref (gm_am θ)), (1, .int x1), (2, .int x2), (3, .int r98), (4, .int x4), (5, .int x5_27), (6, .int x3), (7, .int x7_154)] [] X137) ∧ (¬ r137 = 2 → gm_G θ K mX7_reads (gm_Pi P) 195 [(0, .ref (gm_am θ)), (1, .int x1), (2, .int x2), (3, .int r98), (4, .int x4), (5, .int x5_27)] [] X137))))))) ∧ (¬ 0 ≤ r98 → P ((-1) - r98) X98))))))))))) ∧ (¬ x2 < 12 → gm_G θ K mX7_reads (gm_Pi P) 54 [(3, .int x3)] [] X35))))))))))))) : gm_G θ K mX7_reads (gm_Pi P) 15 [(0, .ref (gm_am θ)), (1, .int x1), (2, .int x2), (3, .int x3), (4, .int x4)] [] X := by
  refine gx_iload h 4 rfl dX7_reads_15 ?_
  refine gx_if_eq (tgt := 455) h (by decide) dX7_reads_17 (fun c => ?_) (fun c => ?_)
  · replace k := k.1 c
    refine gx_iload_n h 2 rfl dX7_reads_455 ?_
    refine gx_if_ne (tgt := 468) h (by decide) dX7_reads_456 (fun c => ?_) (fun c => ?_)
    · replace k := k.2 c
      exact gx_sub [3] rfl k
    · replace k := k.1 c
      refine gx_iload_n h 3 rfl dX7_reads_459 ?_
      refine gx_iload_n h 1 rfl dX7_reads_460 ?_
      refine gx_icmp_ne (tgt := 468) h (by decide) dX7_reads_461 (fun c => ?_) (fun c => ?_)
      · replace k := k.2 c
        exact gx_sub [3] rfl k
      · replace k := k.1 c
        refine gx_iconst (v := (-1)) h dX7_reads_464 (by decide) ?_
        refine gx_goto (tgt := 469) h (by decide) dX7_reads_465 ?_
        exact gx_iret h rfl dX7_reads_469 ⟨_, rfl, k⟩
  · replace k := k.2 c
    refine gx_aload_n h 0 rfl dX7_reads_20 ?_
    refine gm_get1 h rfl dX7_reads_21 ?_
    refine gx_bipush (v := 8) h dX7_reads_24 (by decide) ?_
    refine gm_ld1 h k.1 dX7_reads_26 ?_
    replace k := k.2
    generalize hz : X.2 1 (8 : Int32).toNatClampNeg = x5_27
    replace k := k x5_27 hz.symm
    refine gx_istore (L' := [(5, .int x5_27), (0, .ref (gm_am θ)), (1, .int x1), (2, .int x2), (3, .int x3), (4, .int x4)]) h (by decide) rfl dX7_reads_27 ?_
    refine gx_aload_n h 1 rfl dX7_reads_29 ?_
    refine gx_iload_n h 4 rfl dX7_reads_30 ?_
    refine gx_iload_n h 2 rfl dX7_reads_31 ?_
    refine gm_c_at h rfl ⟨Nat.le_of_ble_eq_true rfl, Nat.le_of_ble_eq_true rfl⟩ (Nat.le_of_ble_eq_true rfl) dX7_reads_32 (gx_C.mono k ?_)
    rintro _ X32 ⟨r32, rfl, k⟩
    refine ⟨r32, rfl, ?_⟩
    refine gm_c_isLetter h rfl ⟨Nat.le_of_ble_eq_true rfl, Nat.le_of_ble_eq_true rfl⟩ (Nat.le_of_ble_eq_true rfl) dX7_reads_35 (gx_C.mono k ?_)
    rintro _ X35 ⟨r35, rfl, k⟩
    refine ⟨r35, rfl, ?_⟩
    refine gx_if_eq (tgt := 54) h (by decide) dX7_reads_38 (fun c => ?_) (fun c => ?_)
    · replace k := k.1 c
      exact gx_sub [4] rfl k
    · replace k := k.2 c
      refine gx_iload h 0 rfl dX7_reads_41 ?_
      refine gx_bipush (v := 30) h dX7_reads_43 (by decide) ?_
      refine gx_icmp_eq (tgt := 54) h (by decide) dX7_reads_45 (fun c => ?_) (fun c => ?_)
      · replace k := k.1 c
        exact gx_sub [4] rfl k
      · replace k := k.2 c
        refine gx_iload_n h 3 rfl dX7_reads_48 ?_
        refine gx_bipush (v := 12) h dX7_reads_49 (by decide) ?_
        refine gx_icmp_lt (tgt := 56) h (by decide) dX7_reads_51 (fun c => ?_) (fun c => ?_)
        · replace k := k.1 c
          refine gx_iload_n h 4 rfl dX7_reads_56 ?_
          refine gx_istore (L' := [(6, .int x3), (5, .int x5_27), (0, .ref (gm_am θ)), (1, .int x1), (2, .int x2), (3, .int x3), (4, .int x4)]) h (by decide) rfl dX7_reads_57 ?_
          refine gx_aload_n h 2 rfl dX7_reads_59 ?_
          refine gx_bipush (v := 8) h dX7_reads_60 (by decide) ?_
          refine gx_iload h 1 rfl dX7_reads_62 ?_
          refine gx_iconst (v := 1) h dX7_reads_64 (by decide) ?_
          refine gx_iconst (v := 0) h dX7_reads_65 (by decide) ?_
          refine gm_c_set h rfl ⟨Nat.le_of_ble_eq_true rfl, Nat.le_of_ble_eq_true rfl⟩ (Nat.le_of_ble_eq_true rfl) dX7_reads_66 (gx_C.mono k ?_)
          rintro _ X66 ⟨rfl, k⟩
          refine ⟨rfl, ?_⟩
          refine gx_aload_n h 2 rfl dX7_reads_69 ?_
          refine gx_bipush (v := 8) h dX7_reads_70 (by decide) ?_
          refine gx_iload h 1 rfl dX7_reads_72 ?_
          refine gx_iconst (v := 2) h dX7_reads_74 (by decide) ?_
          refine gx_iload_n h 4 rfl dX7_reads_75 ?_
          refine gm_c_set h rfl ⟨Nat.le_of_ble_eq_true rfl, Nat.le_of_ble_eq_true rfl⟩ (Nat.le_of_ble_eq_true rfl) dX7_reads_76 (gx_C.mono k ?_)
          rintro _ X76 ⟨rfl, k⟩
          refine ⟨rfl, ?_⟩
          refine gx_aload_n h 2 rfl dX7_reads_79 ?_
          refine gx_bipush (v := 8) h dX7_reads_80 (by decide) ?_
          refine gx_iload h 1 rfl dX7_reads_82 ?_
          refine gx_bipush (v := 10) h dX7_reads_84 (by decide) ?_
          refine gx_iconst (v := 0) h dX7_reads_86 (by decide) ?_
          refine gm_c_set h rfl ⟨Nat.le_of_ble_eq_true rfl, Nat.le_of_ble_eq_true rfl⟩ (Nat.le_of_ble_eq_true rfl) dX7_reads_87 (gx_C.mono k ?_)
          rintro _ X87 ⟨rfl, k⟩
          refine ⟨rfl, ?_⟩
          refine gx_aload_n h 2 rfl dX7_reads_90 ?_
          refine gx_iload h 1 rfl dX7_reads_91 ?_
          refine gx_iload_n h 5 rfl dX7_reads_93 ?_
          refine gx_iload_n h 3 rfl dX7_reads_94 ?_
          refine gx_iconst (v := 3) h dX7_reads_95 (by decide) ?_
          refine gx_bipush (v := 6) h dX7_reads_96 (by decide) ?_
          refine gm_c_signs h rfl ⟨Nat.le_of_ble_eq_true rfl, Nat.le_of_ble_eq_true rfl⟩ (Nat.le_of_ble_eq_true rfl) dX7_reads_98 (gx_C.mono k ?_)
          rintro _ X98 ⟨r98, rfl, k⟩
          refine ⟨r98, rfl, ?_⟩
          refine gx_istore_n (L' := [(3, .int r98), (6, .int x3), (5, .int x5_27), (0, .ref (gm_am θ)), (1, .int x1), (2, .int x2), (4, .int x4)]) h (by decide) rfl dX7_reads_101 ?_
          refine gx_iload_n h 0 rfl dX7_reads_102 ?_
          refine gx_if_ge (tgt := 110) h (by decide) dX7_reads_103 (fun c => ?_) (fun c => ?_)
          · replace k := k.1 c
            refine gx_aload_n h 3 rfl dX7_reads_110 ?_
            refine gm_get1 h rfl dX7_reads_111 ?_
            refine gx_bipush (v := 8) h dX7_reads_114 (by decide) ?_
            refine gx_dup2 h rfl rfl dX7_reads_116 ?_
            refine gm_ld1 h k.1 dX7_reads_117 ?_
            replace k := k.2
            refine gx_iconst (v := 1) h dX7_reads_118 (by decide) ?_
            refine gx_iadd h dX7_reads_119 ?_
            refine gm_st1 h k.1 dX7_reads_120 ?_
            generalize hz : gm_pA X98 1 (8 : Int32).toNatClampNeg ((X98.2 1 (8 : Int32).toNatClampNeg) + 1) = X120
            replace k := k.2 X120 hz.symm
            refine gx_iload_n h 5 rfl dX7_reads_121 ?_
            refine gx_if_le (tgt := 195) h (by decide) dX7_reads_122 (fun c => ?_) (fun c => ?_)
            · replace k := k.1 c
              exact gx_sub [3, 4, 5, 0, 6, 2] rfl k
            · replace k := k.2 c
              refine gx_aload_n h 3 rfl dX7_reads_125 ?_
              refine gx_bipush (v := 8) h dX7_reads_126 (by decide) ?_
              refine gx_aload_n h 3 rfl dX7_reads_128 ?_
              refine gm_get9 h rfl dX7_reads_129 ?_
              refine gx_iload_n h 5 rfl dX7_reads_132 ?_
              refine gx_iconst (v := 1) h dX7_reads_133 (by decide) ?_
              refine gx_isub h dX7_reads_134 ?_
              refine gm_ld9 h k.1 dX7_reads_135 ?_
              replace k := k.2
              refine gx_iconst (v := 1) h dX7_reads_136 (by decide) ?_
              refine gm_c_of h rfl ⟨Nat.le_of_ble_eq_true rfl, Nat.le_of_ble_eq_true rfl⟩ (Nat.le_of_ble_eq_true rfl) dX7_reads_137 (gx_C.mono k ?_)
              rintro _ X137 ⟨r137, rfl, k⟩
              refine ⟨r137, rfl, ?_⟩
              refine gx_iconst (v := 2) h dX7_reads_140 (by decide) ?_
              refine gx_icmp_ne (tgt := 195) h (by decide) dX7_reads_141 (fun c => ?_) (fun c => ?_)
              · replace k := k.2 c
                exact gx_sub [3, 4, 5, 0, 6, 2] rfl k
              · replace k := k.1 c
                refine gx_aload_n h 3 rfl dX7_reads_144 ?_
                refine gm_get9 h rfl dX7_reads_145 ?_
                refine gx_iload_n h 5 rfl dX7_reads_148 ?_
                refine gx_iconst (v := 1) h dX7_reads_149 (by decide) ?_
                refine gx_isub h dX7_reads_150 ?_
                refine gm_ld9 h k.1 dX7_reads_151 ?_
                replace k := k.2
                refine gx_iconst (v := 1) h dX7_reads_152 (by decide) ?_
                refine gx_iadd h dX7_reads_153 ?_
                generalize hz : (X137.2 9 (x2 - 1).toNatClampNeg) + 1 = x7_154
                replace k := k x7_154 hz.symm
                refine gx_istore (L' := [(7, .int x7_154), (3, .int r98), (6, .int x3), (5, .int x5_27), (0, .ref (gm_am θ)), (1, .int x1), (2, .int x2), (4, .int x4)]) h (by decide) rfl dX7_reads_154 ?_
                exact gx_sub [4, 5, 6, 1, 7, 3, 2, 0] rfl k
          · replace k := k.2 c
            refine gx_iconst (v := (-1)) h dX7_reads_106 (by decide) ?_
            refine gx_iload_n h 0 rfl dX7_reads_107 ?_
            refine gx_isub h dX7_reads_108 ?_
            exact gx_iret h rfl dX7_reads_109 ⟨_, rfl, k⟩
        · replace k := k.2 c
          exact gx_sub [4] rfl k
theorem bm_reads_54 {θ : gm_T} {K : gx_K} {P : Int32 → gm_X → Prop} {X : gm_X} {x3 : Int32} (h : gm_K θ K mX7_reads) (k : P x3 X) : gm_G θ K mX7_reads (gm_Pi P) 54 [(3, .int x3)] [] X := by
  refine gx_iload_n h 0 rfl dX7_reads_54 ?_
  exact gx_iret h rfl dX7_reads_55 ⟨_, rfl, k⟩
theorem bm_reads_156 {θ : gm_T} {K : gx_K} {P : Int32 → gm_X → Prop} {X : gm_X} {x1 x2 x3 x4 x5 x6 x7 : Int32} (h : gm_K θ K mX7_reads) (k : ((x5 ≤ x7 → gm_G θ K mX7_reads (gm_Pi P) 195 [(0, .ref (gm_am θ)), (1, .int x1), (2, .int x2), (3, .int x3), (4, .int x4), (5, .int x5)] [] X) ∧ (¬ x5 ≤ x7 → gx_C (gm_O θ) mX7_isLike [.ref (gm_am θ), .int 8, .int x7, .int 8, .int x5, .int 3] X (gm_Pi (fun r173 X173 => ((r173 = 0 → gx_C (gm_O θ) mX7_end [.ref (gm_am θ), .int 8, .int x7] X173 (gm_Pi (fun r187 X187 => gm_G θ K mX7_reads (gm_Pi P) 156 [(0, .ref (gm_am θ)), (1, .int x1), (2, .int x2), (3, .int x3), (4, .int x4), (5, .int x5), (6, .int x6), (7, .int r187)] [] X187))) ∧ (¬ r173 = 0 → P x6 X173))))))) : gm_G θ K mX7_reads (gm_Pi P) 156 [(0, .ref (gm_am θ)), (1, .int x1), (2, .int x2), (3, .int x3), (4, .int x4), (5, .int x5), (6, .int x6), (7, .int x7)] [] X := by
  refine gx_iload h 7 rfl dX7_reads_156 ?_
  refine gx_iload h 5 rfl dX7_reads_158 ?_
  refine gx_icmp_ge (tgt := 195) h (by decide) dX7_reads_160 (fun c => ?_) (fun c => ?_)
  · replace k := k.1 c
    exact gx_sub [0, 1, 2, 3, 4, 5] rfl k
  · replace k := k.2 c
    refine gx_aload_n h 0 rfl dX7_reads_163 ?_
    refine gx_bipush (v := 8) h dX7_reads_164 (by decide) ?_
    refine gx_iload h 7 rfl dX7_reads_166 ?_
    refine gx_bipush (v := 8) h dX7_reads_168 (by decide) ?_
    refine gx_iload h 5 rfl dX7_reads_170 ?_
    refine gx_iconst (v := 3) h dX7_reads_172 (by decide) ?_
    refine gm_c_isLike h rfl ⟨Nat.le_of_ble_eq_true rfl, Nat.le_of_ble_eq_true rfl⟩ (Nat.le_of_ble_eq_true rfl) dX7_reads_173 (gx_C.mono k ?_)
    rintro _ X173 ⟨r173, rfl, k⟩
    refine ⟨r173, rfl, ?_⟩
    refine gx_if_eq (tgt := 182) h (by decide) dX7_reads_176 (fun c => ?_) (fun c => ?_)
    · replace k := k.1 c
      refine gx_aload_n h 0 rfl dX7_reads_182 ?_
      refine gx_bipush (v := 8) h dX7_reads_183 (by decide) ?_
      refine gx_iload h 7 rfl dX7_reads_185 ?_
      refine gm_c_end h rfl ⟨Nat.le_of_ble_eq_true rfl, Nat.le_of_ble_eq_true rfl⟩ (Nat.le_of_ble_eq_true rfl) dX7_reads_187 (gx_C.mono k ?_)
      rintro _ X187 ⟨r187, rfl, k⟩
      refine ⟨r187, rfl, ?_⟩
      refine gx_istore (L' := [(7, .int r187), (0, .ref (gm_am θ)), (1, .int x1), (2, .int x2), (3, .int x3), (4, .int x4), (5, .int x5), (6, .int x6)]) h (by decide) rfl dX7_reads_190 ?_
      refine gx_goto (tgt := 156) h (by decide) dX7_reads_192 ?_
      exact gx_sub [1, 2, 3, 4, 5, 6, 7, 0] rfl k
    · replace k := k.2 c
      refine gx_iload h 6 rfl dX7_reads_179 ?_
      exact gx_iret h rfl dX7_reads_181 ⟨_, rfl, k⟩
theorem bm_reads_195 {θ : gm_T} {K : gx_K} {P : Int32 → gm_X → Prop} {X : gm_X} {x1 x2 x3 x4 x5 : Int32} (h : gm_K θ K mX7_reads) (k : gx_C (gm_O θ) mX7_at [.ref (gm_am θ), .int x3, .int x1] X (gm_Pi (fun r198 X198 => ((r198 = 61 → gx_C (gm_O θ) mX7_signs [.ref (gm_am θ), .int x5, .int (x3 + 1), .int x1, .int 10, .int 8] X198 (gm_Pi (fun r217 X217 => ((0 ≤ r217 → gm_G θ K mX7_reads (gm_Pi P) 229 [(0, .ref (gm_am θ)), (1, .int x1), (2, .int x2), (3, .int r217), (4, .int x4), (5, .int x5)] [] X217) ∧ (¬ 0 ≤ r217 → P ((-1) - r217) X217))))) ∧ (¬ r198 = 61 → gm_G θ K mX7_reads (gm_Pi P) 229 [(0, .ref (gm_am θ)), (1, .int x1), (2, .int x2), (3, .int x3), (4, .int x4), (5, .int x5)] [] X198))))) : gm_G θ K mX7_reads (gm_Pi P) 195 [(0, .ref (gm_am θ)), (1, .int x1), (2, .int x2), (3, .int x3), (4, .int x4), (5, .int x5)] [] X := by
  refine gx_aload_n h 0 rfl dX7_reads_195 ?_
  refine gx_iload_n h 3 rfl dX7_reads_196 ?_
  refine gx_iload_n h 1 rfl dX7_reads_197 ?_
  refine gm_c_at h rfl ⟨Nat.le_of_ble_eq_true rfl, Nat.le_of_ble_eq_true rfl⟩ (Nat.le_of_ble_eq_true rfl) dX7_reads_198 (gx_C.mono k ?_)
  rintro _ X198 ⟨r198, rfl, k⟩
  refine ⟨r198, rfl, ?_⟩
  refine gx_bipush (v := 61) h dX7_reads_201 (by decide) ?_
  refine gx_icmp_ne (tgt := 229) h (by decide) dX7_reads_203 (fun c => ?_) (fun c => ?_)
  · replace k := k.2 c
    exact k
  · replace k := k.1 c
    refine gx_aload_n h 0 rfl dX7_reads_206 ?_
    refine gx_iload h 5 rfl dX7_reads_207 ?_
    refine gx_iload_n h 3 rfl dX7_reads_209 ?_
    refine gx_iconst (v := 1) h dX7_reads_210 (by decide) ?_
    refine gx_iadd h dX7_reads_211 ?_
    refine gx_iload_n h 1 rfl dX7_reads_212 ?_
    refine gx_bipush (v := 10) h dX7_reads_213 (by decide) ?_
    refine gx_bipush (v := 8) h dX7_reads_215 (by decide) ?_
    refine gm_c_signs h rfl ⟨Nat.le_of_ble_eq_true rfl, Nat.le_of_ble_eq_true rfl⟩ (Nat.le_of_ble_eq_true rfl) dX7_reads_217 (gx_C.mono k ?_)
    rintro _ X217 ⟨r217, rfl, k⟩
    refine ⟨r217, rfl, ?_⟩
    refine gx_istore_n (L' := [(3, .int r217), (0, .ref (gm_am θ)), (1, .int x1), (2, .int x2), (4, .int x4), (5, .int x5)]) h (by decide) rfl dX7_reads_220 ?_
    refine gx_iload_n h 0 rfl dX7_reads_221 ?_
    refine gx_if_ge (tgt := 229) h (by decide) dX7_reads_222 (fun c => ?_) (fun c => ?_)
    · replace k := k.1 c
      exact gx_sub [1, 2, 3, 0, 4, 5] rfl k
    · replace k := k.2 c
      refine gx_iconst (v := (-1)) h dX7_reads_225 (by decide) ?_
      refine gx_iload_n h 0 rfl dX7_reads_226 ?_
      refine gx_isub h dX7_reads_227 ?_
      exact gx_iret h rfl dX7_reads_228 ⟨_, rfl, k⟩
theorem bm_reads_229 {θ : gm_T} {K : gx_K} {P : Int32 → gm_X → Prop} {X : gm_X} {x1 x2 x3 x4 x5 : Int32} (h : gm_K θ K mX7_reads) (k : gx_C (gm_O θ) mX7_at [.ref (gm_am θ), .int x3, .int x1] X (gm_Pi (fun r232 X232 => ((r232 = 40 → gm_G θ K mX7_reads (gm_Pi P) 258 [(0, .ref (gm_am θ)), (1, .int x1), (2, .int x2), (3, .int x3), (4, .int x4), (5, .int x5), (7, .int r232)] [] X232) ∧ (¬ r232 = 40 → ((r232 = 123 → gm_G θ K mX7_reads (gm_Pi P) 258 [(0, .ref (gm_am θ)), (1, .int x1), (2, .int x2), (3, .int x3), (4, .int x4), (5, .int x5), (7, .int r232)] [] X232) ∧ (¬ r232 = 123 → ((r232 = 60 → gm_G θ K mX7_reads (gm_Pi P) 258 [(0, .ref (gm_am θ)), (1, .int x1), (2, .int x2), (3, .int x3), (4, .int x4), (5, .int x5), (7, .int r232)] [] X232) ∧ (¬ r232 = 60 → ((r232 = 33 → gx_C (gm_O θ) mX7_set [.ref (gm_am θ), .int 8, .int x5, .int 1, .int 3] X232 (gm_Pv (fun X386 => gm_G θ K mX7_reads (gm_Pi P) 392 [(0, .ref (gm_am θ)), (1, .int x1), (2, .int x2), (3, .int (x3 + 1))] [] X386))) ∧ (¬ r232 = 33 → gm_G θ K mX7_reads (gm_Pi P) 392 [(0, .ref (gm_am θ)), (1, .int x1), (2, .int x2), (3, .int x3)] [] X232))))))))))) : gm_G θ K mX7_reads (gm_Pi P) 229 [(0, .ref (gm_am θ)), (1, .int x1), (2, .int x2), (3, .int x3), (4, .int x4), (5, .int x5)] [] X := by
  refine gx_aload_n h 0 rfl dX7_reads_229 ?_
  refine gx_iload_n h 3 rfl dX7_reads_230 ?_
  refine gx_iload_n h 1 rfl dX7_reads_231 ?_
  refine gm_c_at h rfl ⟨Nat.le_of_ble_eq_true rfl, Nat.le_of_ble_eq_true rfl⟩ (Nat.le_of_ble_eq_true rfl) dX7_reads_232 (gx_C.mono k ?_)
  rintro _ X232 ⟨r232, rfl, k⟩
  refine ⟨r232, rfl, ?_⟩
  refine gx_istore (L' := [(7, .int r232), (0, .ref (gm_am θ)), (1, .int x1), (2, .int x2), (3, .int x3), (4, .int x4), (5, .int x5)]) h (by decide) rfl dX7_reads_235 ?_
  refine gx_iload h 0 rfl dX7_reads_237 ?_
  refine gx_bipush (v := 40) h dX7_reads_239 (by decide) ?_
  refine gx_icmp_eq (tgt := 258) h (by decide) dX7_reads_241 (fun c => ?_) (fun c => ?_)
  · replace k := k.1 c
    exact gx_sub [1, 2, 3, 4, 5, 6, 0] rfl k
  · replace k := k.2 c
    refine gx_iload h 0 rfl dX7_reads_244 ?_
    refine gx_bipush (v := 123) h dX7_reads_246 (by decide) ?_
    refine gx_icmp_eq (tgt := 258) h (by decide) dX7_reads_248 (fun c => ?_) (fun c => ?_)
    · replace k := k.1 c
      exact gx_sub [1, 2, 3, 4, 5, 6, 0] rfl k
    · replace k := k.2 c
      refine gx_iload h 0 rfl dX7_reads_251 ?_
      refine gx_bipush (v := 60) h dX7_reads_253 (by decide) ?_
      refine gx_icmp_ne (tgt := 372) h (by decide) dX7_reads_255 (fun c => ?_) (fun c => ?_)
      · replace k := k.2 c
        refine gx_iload h 0 rfl dX7_reads_372 ?_
        refine gx_bipush (v := 33) h dX7_reads_374 (by decide) ?_
        refine gx_icmp_ne (tgt := 392) h (by decide) dX7_reads_376 (fun c => ?_) (fun c => ?_)
        · replace k := k.2 c
          exact gx_sub [1, 2, 3, 4] rfl k
        · replace k := k.1 c
          refine gx_aload_n h 1 rfl dX7_reads_379 ?_
          refine gx_bipush (v := 8) h dX7_reads_380 (by decide) ?_
          refine gx_iload h 6 rfl dX7_reads_382 ?_
          refine gx_iconst (v := 1) h dX7_reads_384 (by decide) ?_
          refine gx_iconst (v := 3) h dX7_reads_385 (by decide) ?_
          refine gm_c_set h rfl ⟨Nat.le_of_ble_eq_true rfl, Nat.le_of_ble_eq_true rfl⟩ (Nat.le_of_ble_eq_true rfl) dX7_reads_386 (gx_C.mono k ?_)
          rintro _ X386 ⟨rfl, k⟩
          refine ⟨rfl, ?_⟩
          refine gx_iinc (v := x3 + 1) (L' := [(3, .int (x3 + 1)), (7, .int r232), (0, .ref (gm_am θ)), (1, .int x1), (2, .int x2), (4, .int x4), (5, .int x5)]) h 4 rfl rfl (by decide) rfl dX7_reads_389 ?_
          exact gx_sub [2, 3, 4, 0] rfl k
      · replace k := k.1 c
        exact gx_sub [1, 2, 3, 4, 5, 6, 0] rfl k
theorem bm_reads_258 {θ : gm_T} {K : gx_K} {P : Int32 → gm_X → Prop} {X : gm_X} {x1 x2 x3 x4 x5 x7 : Int32} (h : gm_K θ K mX7_reads) (k : ((x7 = 40 → gm_G θ K mX7_reads (gm_Pi P) 287 [(0, .ref (gm_am θ)), (1, .int x1), (2, .int x2), (3, .int x3), (4, .int x4), (5, .int x5), (7, .int x7)] [.int 0, .int 1, .int x5, .int 8, .ref (gm_am θ)] X) ∧ (¬ x7 = 40 → ((x7 = 123 → gm_G θ K mX7_reads (gm_Pi P) 287 [(0, .ref (gm_am θ)), (1, .int x1), (2, .int x2), (3, .int x3), (4, .int x4), (5, .int x5), (7, .int x7)] [.int 1, .int 1, .int x5, .int 8, .ref (gm_am θ)] X) ∧ (¬ x7 = 123 → gm_G θ K mX7_reads (gm_Pi P) 287 [(0, .ref (gm_am θ)), (1, .int x1), (2, .int x2), (3, .int x3), (4, .int x4), (5, .int x5), (7, .int x7)] [.int 2, .int 1, .int x5, .int 8, .ref (gm_am θ)] X))))) : gm_G θ K mX7_reads (gm_Pi P) 258 [(0, .ref (gm_am θ)), (1, .int x1), (2, .int x2), (3, .int x3), (4, .int x4), (5, .int x5), (7, .int x7)] [] X := by
  refine gx_aload_n h 0 rfl dX7_reads_258 ?_
  refine gx_bipush (v := 8) h dX7_reads_259 (by decide) ?_
  refine gx_iload h 5 rfl dX7_reads_261 ?_
  refine gx_iconst (v := 1) h dX7_reads_263 (by decide) ?_
  refine gx_iload h 6 rfl dX7_reads_264 ?_
  refine gx_bipush (v := 40) h dX7_reads_266 (by decide) ?_
  refine gx_icmp_ne (tgt := 275) h (by decide) dX7_reads_268 (fun c => ?_) (fun c => ?_)
  · replace k := k.2 c
    refine gx_iload h 6 rfl dX7_reads_275 ?_
    refine gx_bipush (v := 123) h dX7_reads_277 (by decide) ?_
    refine gx_icmp_ne (tgt := 286) h (by decide) dX7_reads_279 (fun c => ?_) (fun c => ?_)
    · replace k := k.2 c
      refine gx_iconst (v := 2) h dX7_reads_286 (by decide) ?_
      exact k
    · replace k := k.1 c
      refine gx_iconst (v := 1) h dX7_reads_282 (by decide) ?_
      refine gx_goto (tgt := 287) h (by decide) dX7_reads_283 ?_
      exact k
  · replace k := k.1 c
    refine gx_iconst (v := 0) h dX7_reads_271 (by decide) ?_
    refine gx_goto (tgt := 287) h (by decide) dX7_reads_272 ?_
    exact k
theorem bm_reads_287 {θ : gm_T} {K : gx_K} {P : Int32 → gm_X → Prop} {X : gm_X} {x1 x2 x3 x4 x5 x7 s0 s1 s2 s3 : Int32} (h : gm_K θ K mX7_reads) (k : gx_C (gm_O θ) mX7_set [.ref (gm_am θ), .int s3, .int s2, .int s1, .int s0] X (gm_Pv (fun X287 => vp_in x2 13 ∧ ∀ X297, X297 = gm_pA X287 9 x2.toNatClampNeg x5 → ((x7 = 40 → gm_G θ K mX7_reads (gm_Pi P) 329 [(0, .ref (gm_am θ)), (1, .int x1), (2, .int x2), (3, .int x3), (4, .int x4), (7, .int x7)] [.int 41, .int x2, .ref (gm_ad θ 10)] X297) ∧ (¬ x7 = 40 → ((x7 = 123 → gm_G θ K mX7_reads (gm_Pi P) 329 [(0, .ref (gm_am θ)), (1, .int x1), (2, .int x2), (3, .int x3), (4, .int x4), (7, .int x7)] [.int 125, .int x2, .ref (gm_ad θ 10)] X297) ∧ (¬ x7 = 123 → gm_G θ K mX7_reads (gm_Pi P) 329 [(0, .ref (gm_am θ)), (1, .int x1), (2, .int x2), (3, .int x3), (4, .int x4), (7, .int x7)] [.int 62, .int x2, .ref (gm_ad θ 10)] X297))))))) : gm_G θ K mX7_reads (gm_Pi P) 287 [(0, .ref (gm_am θ)), (1, .int x1), (2, .int x2), (3, .int x3), (4, .int x4), (5, .int x5), (7, .int x7)] [.int s0, .int s1, .int s2, .int s3, .ref (gm_am θ)] X := by
  refine gm_c_set h rfl ⟨Nat.le_of_ble_eq_true rfl, Nat.le_of_ble_eq_true rfl⟩ (Nat.le_of_ble_eq_true rfl) dX7_reads_287 (gx_C.mono k ?_)
  rintro _ X287 ⟨rfl, k⟩
  refine ⟨rfl, ?_⟩
  refine gx_aload_n h 0 rfl dX7_reads_290 ?_
  refine gm_get9 h rfl dX7_reads_291 ?_
  refine gx_iload_n h 2 rfl dX7_reads_294 ?_
  refine gx_iload h 5 rfl dX7_reads_295 ?_
  refine gm_st9 h k.1 dX7_reads_297 ?_
  generalize hz : gm_pA X287 9 x2.toNatClampNeg x5 = X297
  replace k := k.2 X297 hz.symm
  refine gx_aload_n h 0 rfl dX7_reads_298 ?_
  refine gm_get10 h rfl dX7_reads_299 ?_
  refine gx_iload_n h 2 rfl dX7_reads_302 ?_
  refine gx_iload h 6 rfl dX7_reads_303 ?_
  refine gx_bipush (v := 40) h dX7_reads_305 (by decide) ?_
  refine gx_icmp_ne (tgt := 315) h (by decide) dX7_reads_307 (fun c => ?_) (fun c => ?_)
  · replace k := k.2 c
    refine gx_iload h 6 rfl dX7_reads_315 ?_
    refine gx_bipush (v := 123) h dX7_reads_317 (by decide) ?_
    refine gx_icmp_ne (tgt := 327) h (by decide) dX7_reads_319 (fun c => ?_) (fun c => ?_)
    · replace k := k.2 c
      refine gx_bipush (v := 62) h dX7_reads_327 (by decide) ?_
      exact gx_sub [0, 1, 2, 3, 4, 6] rfl k
    · replace k := k.1 c
      refine gx_bipush (v := 125) h dX7_reads_322 (by decide) ?_
      refine gx_goto (tgt := 329) h (by decide) dX7_reads_324 ?_
      exact gx_sub [0, 1, 2, 3, 4, 6] rfl k
  · replace k := k.1 c
    refine gx_bipush (v := 41) h dX7_reads_310 (by decide) ?_
    refine gx_goto (tgt := 329) h (by decide) dX7_reads_312 ?_
    exact gx_sub [0, 1, 2, 3, 4, 6] rfl k
theorem bm_reads_329 {θ : gm_T} {K : gx_K} {P : Int32 → gm_X → Prop} {X : gm_X} {x1 x2 x3 x4 x7 s0 s1 : Int32} (h : gm_K θ K mX7_reads) (k : vp_in s1 13 ∧ ∀ X329, X329 = gm_pA X 10 s1.toNatClampNeg s0 → ((x7 = 40 → gm_G θ K mX7_reads (gm_Pi P) 15 [(0, .ref (gm_am θ)), (1, .int x1), (2, .int (x2 + 1)), (3, .int (x3 + 1)), (4, .int x4)] [] X329) ∧ (¬ x7 = 40 → gx_C (gm_O θ) mX7_at [.ref (gm_am θ), .int (x3 + 1), .int x1] X329 (gm_Pi (fun r346 X346 => vp_in ((x2 + 1) - 1) 13 ∧ ((r346 = (X346.2 10 ((x2 + 1) - 1).toNatClampNeg) → gm_G θ K mX7_reads (gm_Pi P) 392 [(0, .ref (gm_am θ)), (1, .int x1), (2, .int ((x2 + 1) + (-1))), (3, .int ((x3 + 1) + 1))] [] X346) ∧ (¬ r346 = (X346.2 10 ((x2 + 1) - 1).toNatClampNeg) → gm_G θ K mX7_reads (gm_Pi P) 15 [(0, .ref (gm_am θ)), (1, .int x1), (2, .int (x2 + 1)), (3, .int (x3 + 1)), (4, .int x4)] [] X346))))))) : gm_G θ K mX7_reads (gm_Pi P) 329 [(0, .ref (gm_am θ)), (1, .int x1), (2, .int x2), (3, .int x3), (4, .int x4), (7, .int x7)] [.int s0, .int s1, .ref (gm_ad θ 10)] X := by
  refine gm_st10 h k.1 dX7_reads_329 ?_
  generalize hz : gm_pA X 10 s1.toNatClampNeg s0 = X329
  replace k := k.2 X329 hz.symm
  refine gx_iinc (v := x2 + 1) (L' := [(2, .int (x2 + 1)), (0, .ref (gm_am θ)), (1, .int x1), (3, .int x3), (4, .int x4), (7, .int x7)]) h 2 rfl rfl (by decide) rfl dX7_reads_330 ?_
  refine gx_iinc (v := x3 + 1) (L' := [(3, .int (x3 + 1)), (2, .int (x2 + 1)), (0, .ref (gm_am θ)), (1, .int x1), (4, .int x4), (7, .int x7)]) h 3 rfl rfl (by decide) rfl dX7_reads_333 ?_
  refine gx_iload h 5 rfl dX7_reads_336 ?_
  refine gx_bipush (v := 40) h dX7_reads_338 (by decide) ?_
  refine gx_icmp_eq (tgt := 15) h (by decide) dX7_reads_340 (fun c => ?_) (fun c => ?_)
  · replace k := k.1 c
    exact gx_sub [2, 3, 1, 0, 4] rfl k
  · replace k := k.2 c
    refine gx_aload_n h 2 rfl dX7_reads_343 ?_
    refine gx_iload_n h 0 rfl dX7_reads_344 ?_
    refine gx_iload_n h 3 rfl dX7_reads_345 ?_
    refine gm_c_at h rfl ⟨Nat.le_of_ble_eq_true rfl, Nat.le_of_ble_eq_true rfl⟩ (Nat.le_of_ble_eq_true rfl) dX7_reads_346 (gx_C.mono k ?_)
    rintro _ X346 ⟨r346, rfl, k⟩
    refine ⟨r346, rfl, ?_⟩
    refine gx_aload_n h 2 rfl dX7_reads_349 ?_
    refine gm_get10 h rfl dX7_reads_350 ?_
    refine gx_iload_n h 1 rfl dX7_reads_353 ?_
    refine gx_iconst (v := 1) h dX7_reads_354 (by decide) ?_
    refine gx_isub h dX7_reads_355 ?_
    refine gm_ld10 h k.1 dX7_reads_356 ?_
    replace k := k.2
    refine gx_icmp_eq (tgt := 363) h (by decide) dX7_reads_357 (fun c => ?_) (fun c => ?_)
    · replace k := k.1 c
      refine gx_iinc (v := (x2 + 1) + (-1)) (L' := [(2, .int ((x2 + 1) + (-1))), (3, .int (x3 + 1)), (0, .ref (gm_am θ)), (1, .int x1), (4, .int x4), (7, .int x7)]) h 1 rfl (congrArg (fun q => (x2 + 1) + q) (by decide)) (by decide) rfl dX7_reads_363 ?_
      refine gx_iinc (v := (x3 + 1) + 1) (L' := [(3, .int ((x3 + 1) + 1)), (2, .int ((x2 + 1) + (-1))), (0, .ref (gm_am θ)), (1, .int x1), (4, .int x4), (7, .int x7)]) h 1 rfl rfl (by decide) rfl dX7_reads_366 ?_
      refine gx_goto (tgt := 392) h (by decide) dX7_reads_369 ?_
      exact gx_sub [2, 3, 1, 0] rfl k
    · replace k := k.2 c
      refine gx_goto (tgt := 15) h (by decide) dX7_reads_360 ?_
      exact gx_sub [2, 3, 1, 0, 4] rfl k
theorem bm_reads_392 {θ : gm_T} {K : gx_K} {P : Int32 → gm_X → Prop} {X : gm_X} {x1 x2 x3 : Int32} (h : gm_K θ K mX7_reads) (k : ((x2 ≤ 0 → gm_G θ K mX7_reads (gm_Pi P) 422 [(0, .ref (gm_am θ)), (1, .int x1), (2, .int x2), (3, .int x3)] [] X) ∧ (¬ x2 ≤ 0 → gx_C (gm_O θ) mX7_at [.ref (gm_am θ), .int x3, .int x1] X (gm_Pi (fun r399 X399 => vp_in (x2 - 1) 13 ∧ ((r399 = (X399.2 10 (x2 - 1).toNatClampNeg) → gm_G θ K mX7_reads (gm_Pi P) 392 [(0, .ref (gm_am θ)), (1, .int x1), (2, .int (x2 + (-1))), (3, .int (x3 + 1))] [] X399) ∧ (¬ r399 = (X399.2 10 (x2 - 1).toNatClampNeg) → gm_G θ K mX7_reads (gm_Pi P) 422 [(0, .ref (gm_am θ)), (1, .int x1), (2, .int x2), (3, .int x3)] [] X399))))))) : gm_G θ K mX7_reads (gm_Pi P) 392 [(0, .ref (gm_am θ)), (1, .int x1), (2, .int x2), (3, .int x3)] [] X := by
  refine gx_iload_n h 2 rfl dX7_reads_392 ?_
  refine gx_if_le (tgt := 422) h (by decide) dX7_reads_393 (fun c => ?_) (fun c => ?_)
  · replace k := k.1 c
    exact k
  · replace k := k.2 c
    refine gx_aload_n h 0 rfl dX7_reads_396 ?_
    refine gx_iload_n h 3 rfl dX7_reads_397 ?_
    refine gx_iload_n h 1 rfl dX7_reads_398 ?_
    refine gm_c_at h rfl ⟨Nat.le_of_ble_eq_true rfl, Nat.le_of_ble_eq_true rfl⟩ (Nat.le_of_ble_eq_true rfl) dX7_reads_399 (gx_C.mono k ?_)
    rintro _ X399 ⟨r399, rfl, k⟩
    refine ⟨r399, rfl, ?_⟩
    refine gx_aload_n h 0 rfl dX7_reads_402 ?_
    refine gm_get10 h rfl dX7_reads_403 ?_
    refine gx_iload_n h 2 rfl dX7_reads_406 ?_
    refine gx_iconst (v := 1) h dX7_reads_407 (by decide) ?_
    refine gx_isub h dX7_reads_408 ?_
    refine gm_ld10 h k.1 dX7_reads_409 ?_
    replace k := k.2
    refine gx_icmp_ne (tgt := 422) h (by decide) dX7_reads_410 (fun c => ?_) (fun c => ?_)
    · replace k := k.2 c
      exact k
    · replace k := k.1 c
      refine gx_iinc (v := x2 + (-1)) (L' := [(2, .int (x2 + (-1))), (0, .ref (gm_am θ)), (1, .int x1), (3, .int x3)]) h 2 rfl (congrArg (fun q => x2 + q) (by decide)) (by decide) rfl dX7_reads_413 ?_
      refine gx_iinc (v := x3 + 1) (L' := [(3, .int (x3 + 1)), (2, .int (x2 + (-1))), (0, .ref (gm_am θ)), (1, .int x1)]) h 3 rfl rfl (by decide) rfl dX7_reads_416 ?_
      refine gx_goto (tgt := 392) h (by decide) dX7_reads_419 ?_
      exact gx_sub [2, 3, 1, 0] rfl k
theorem bm_reads_422 {θ : gm_T} {K : gx_K} {P : Int32 → gm_X → Prop} {X : gm_X} {x1 x2 x3 : Int32} (h : gm_K θ K mX7_reads) (k : ((x2 ≤ 0 → gm_G θ K mX7_reads (gm_Pi P) 441 [(0, .ref (gm_am θ)), (1, .int x1), (2, .int x2), (3, .int x3)] [] X) ∧ (¬ x2 ≤ 0 → gx_C (gm_O θ) mX7_at [.ref (gm_am θ), .int x3, .int x1] X (gm_Pi (fun r429 X429 => ((r429 = 44 → gm_G θ K mX7_reads (gm_Pi P) 442 [(0, .ref (gm_am θ)), (1, .int x1), (2, .int x2), (3, .int x3)] [.int 1] X429) ∧ (¬ r429 = 44 → gm_G θ K mX7_reads (gm_Pi P) 441 [(0, .ref (gm_am θ)), (1, .int x1), (2, .int x2), (3, .int x3)] [] X429))))))) : gm_G θ K mX7_reads (gm_Pi P) 422 [(0, .ref (gm_am θ)), (1, .int x1), (2, .int x2), (3, .int x3)] [] X := by
  refine gx_iload_n h 2 rfl dX7_reads_422 ?_
  refine gx_if_le (tgt := 441) h (by decide) dX7_reads_423 (fun c => ?_) (fun c => ?_)
  · replace k := k.1 c
    exact k
  · replace k := k.2 c
    refine gx_aload_n h 0 rfl dX7_reads_426 ?_
    refine gx_iload_n h 3 rfl dX7_reads_427 ?_
    refine gx_iload_n h 1 rfl dX7_reads_428 ?_
    refine gm_c_at h rfl ⟨Nat.le_of_ble_eq_true rfl, Nat.le_of_ble_eq_true rfl⟩ (Nat.le_of_ble_eq_true rfl) dX7_reads_429 (gx_C.mono k ?_)
    rintro _ X429 ⟨r429, rfl, k⟩
    refine ⟨r429, rfl, ?_⟩
    refine gx_bipush (v := 44) h dX7_reads_432 (by decide) ?_
    refine gx_icmp_ne (tgt := 441) h (by decide) dX7_reads_434 (fun c => ?_) (fun c => ?_)
    · replace k := k.2 c
      exact k
    · replace k := k.1 c
      refine gx_iconst (v := 1) h dX7_reads_437 (by decide) ?_
      refine gx_goto (tgt := 442) h (by decide) dX7_reads_438 ?_
      exact k
theorem bm_reads_441 {θ : gm_T} {K : gx_K} {P : Int32 → gm_X → Prop} {X : gm_X} {x1 x2 x3 : Int32} (h : gm_K θ K mX7_reads) (k : gm_G θ K mX7_reads (gm_Pi P) 442 [(0, .ref (gm_am θ)), (1, .int x1), (2, .int x2), (3, .int x3)] [.int 0] X) : gm_G θ K mX7_reads (gm_Pi P) 441 [(0, .ref (gm_am θ)), (1, .int x1), (2, .int x2), (3, .int x3)] [] X := by
  refine gx_iconst (v := 0) h dX7_reads_441 (by decide) ?_
  exact k
theorem bm_reads_442 {θ : gm_T} {K : gx_K} {P : Int32 → gm_X → Prop} {X : gm_X} {x1 x2 x3 s0 : Int32} (h : gm_K θ K mX7_reads) (k : ((s0 = 0 → gm_G θ K mX7_reads (gm_Pi P) 452 [(0, .ref (gm_am θ)), (1, .int x1), (2, .int x2), (3, .int x3), (4, .int s0)] [] X) ∧ (¬ s0 = 0 → gm_G θ K mX7_reads (gm_Pi P) 452 [(0, .ref (gm_am θ)), (1, .int x1), (2, .int x2), (3, .int (x3 + 1)), (4, .int s0)] [] X))) : gm_G θ K mX7_reads (gm_Pi P) 442 [(0, .ref (gm_am θ)), (1, .int x1), (2, .int x2), (3, .int x3)] [.int s0] X := by
  refine gx_istore (L' := [(4, .int s0), (0, .ref (gm_am θ)), (1, .int x1), (2, .int x2), (3, .int x3)]) h (by decide) rfl dX7_reads_442 ?_
  refine gx_iload h 0 rfl dX7_reads_444 ?_
  refine gx_if_eq (tgt := 452) h (by decide) dX7_reads_446 (fun c => ?_) (fun c => ?_)
  · replace k := k.1 c
    exact gx_sub [1, 2, 3, 4, 0] rfl k
  · replace k := k.2 c
    refine gx_iinc (v := x3 + 1) (L' := [(3, .int (x3 + 1)), (4, .int s0), (0, .ref (gm_am θ)), (1, .int x1), (2, .int x2)]) h 4 rfl rfl (by decide) rfl dX7_reads_449 ?_
    exact gx_sub [2, 3, 4, 0, 1] rfl k
theorem bm_reads_452 {θ : gm_T} {K : gx_K} {P : Int32 → gm_X → Prop} {X : gm_X} {x1 x2 x3 x4 : Int32} (h : gm_K θ K mX7_reads) (k : gm_G θ K mX7_reads (gm_Pi P) 15 [(0, .ref (gm_am θ)), (1, .int x1), (2, .int x2), (3, .int x3), (4, .int x4)] [] X) : gm_G θ K mX7_reads (gm_Pi P) 452 [(0, .ref (gm_am θ)), (1, .int x1), (2, .int x2), (3, .int x3), (4, .int x4)] [] X := by
  refine gx_goto (tgt := 15) h (by decide) dX7_reads_452 ?_
  exact k
theorem bm_reads_468 {θ : gm_T} {K : gx_K} {P : Int32 → gm_X → Prop} {X : gm_X} {x3 : Int32} (h : gm_K θ K mX7_reads) (k : P x3 X) : gm_G θ K mX7_reads (gm_Pi P) 468 [(3, .int x3)] [] X := by
  refine gx_iload_n h 0 rfl dX7_reads_468 ?_
  exact gx_iret h rfl dX7_reads_469 ⟨_, rfl, k⟩
/-! at -/
theorem em_at {θ : gm_T} {P : Int32 → gm_X → Prop} {X : gm_X} {x1 : Int32} {x2 : Int32} (body : ∀ K, gm_K θ K mX7_at → gm_G θ K mX7_at (gm_Pi P) 0 [(0, .ref (gm_am θ)), (1, .int x1), (2, .int x2)] [] X) : gx_C (gm_O θ) mX7_at [.ref (gm_am θ), .int x1, .int x2] X (gm_Pi P) :=
  gx_C.intro (gm_z θ) (by decide) (Nat.le_of_ble_eq_true rfl) body
theorem bm_at_0 {θ : gm_T} {K : gx_K} {P : Int32 → gm_X → Prop} {X : gm_X} {x1 x2 : Int32} (h : gm_K θ K mX7_at) (k : ((x2 ≤ x1 → P (-1) X) ∧ (¬ x2 ≤ x1 → vp_in x1 400 ∧ P (X.2 3 x1.toNatClampNeg) X))) : gm_G θ K mX7_at (gm_Pi P) 0 [(0, .ref (gm_am θ)), (1, .int x1), (2, .int x2)] [] X := by
  refine gx_iload_n h 1 rfl dX7_at_0 ?_
  refine gx_iload_n h 2 rfl dX7_at_1 ?_
  refine gx_icmp_ge (tgt := 14) h (by decide) dX7_at_2 (fun c => ?_) (fun c => ?_)
  · replace k := k.1 c
    refine gx_iconst (v := (-1)) h dX7_at_14 (by decide) ?_
    exact gx_iret h rfl dX7_at_15 ⟨_, rfl, k⟩
  · replace k := k.2 c
    refine gx_aload_n h 0 rfl dX7_at_5 ?_
    refine gm_get3 h rfl dX7_at_6 ?_
    refine gx_iload_n h 1 rfl dX7_at_9 ?_
    refine gm_ld3 h k.1 dX7_at_10 ?_
    replace k := k.2
    refine gx_goto (tgt := 15) h (by decide) dX7_at_11 ?_
    exact gx_iret h rfl dX7_at_15 ⟨_, rfl, k⟩
/-! isLetter -/
theorem em_isLetter {θ : gm_T} {P : Int32 → gm_X → Prop} {X : gm_X} {x0 : Int32} (body : ∀ K, gm_K θ K mX7_isLetter → gm_G θ K mX7_isLetter (gm_Pi P) 0 [(0, .int x0)] [] X) : gx_C (gm_O θ) mX7_isLetter [.int x0] X (gm_Pi P) :=
  gx_C.intro (gm_z θ) (by decide) (Nat.le_of_ble_eq_true rfl) body
theorem bm_isLetter_0 {θ : gm_T} {K : gx_K} {P : Int32 → gm_X → Prop} {X : gm_X} {x0 : Int32} (h : gm_K θ K mX7_isLetter) (k : ((x0 < 97 → gm_G θ K mX7_isLetter (gm_Pi P) 16 [] [] X) ∧ (¬ x0 < 97 → ((122 < x0 → gm_G θ K mX7_isLetter (gm_Pi P) 16 [] [] X) ∧ (¬ 122 < x0 → P 1 X))))) : gm_G θ K mX7_isLetter (gm_Pi P) 0 [(0, .int x0)] [] X := by
  refine gx_iload_n h 0 rfl dX7_isLetter_0 ?_
  refine gx_bipush (v := 97) h dX7_isLetter_1 (by decide) ?_
  refine gx_icmp_lt (tgt := 16) h (by decide) dX7_isLetter_3 (fun c => ?_) (fun c => ?_)
  · replace k := k.1 c
    exact gx_sub [] rfl k
  · replace k := k.2 c
    refine gx_iload_n h 0 rfl dX7_isLetter_6 ?_
    refine gx_bipush (v := 122) h dX7_isLetter_7 (by decide) ?_
    refine gx_icmp_gt (tgt := 16) h (by decide) dX7_isLetter_9 (fun c => ?_) (fun c => ?_)
    · replace k := k.1 c
      exact gx_sub [] rfl k
    · replace k := k.2 c
      refine gx_iconst (v := 1) h dX7_isLetter_12 (by decide) ?_
      refine gx_goto (tgt := 17) h (by decide) dX7_isLetter_13 ?_
      exact gx_zret h rfl rfl dX7_isLetter_17 ⟨_, rfl, k⟩
theorem bm_isLetter_16 {θ : gm_T} {K : gx_K} {P : Int32 → gm_X → Prop} {X : gm_X} (h : gm_K θ K mX7_isLetter) (k : P 0 X) : gm_G θ K mX7_isLetter (gm_Pi P) 16 [] [] X := by
  refine gx_iconst (v := 0) h dX7_isLetter_16 (by decide) ?_
  exact gx_zret h rfl rfl dX7_isLetter_17 ⟨_, rfl, k⟩
/-! set -/
theorem em_set {θ : gm_T} {P : gm_X → Prop} {X : gm_X} {x1 : Int32} {x2 : Int32} {x3 : Int32} {x4 : Int32} (body : ∀ K, gm_K θ K mX7_set → gm_G θ K mX7_set (gm_Pv P) 0 [(0, .ref (gm_am θ)), (1, .int x1), (2, .int x2), (3, .int x3), (4, .int x4)] [] X) : gx_C (gm_O θ) mX7_set [.ref (gm_am θ), .int x1, .int x2, .int x3, .int x4] X (gm_Pv P) :=
  gx_C.intro (gm_z θ) (by decide) (Nat.le_of_ble_eq_true rfl) body
theorem bm_set_0 {θ : gm_T} {K : gx_K} {P : gm_X → Prop} {X : gm_X} {x1 x2 x3 x4 : Int32} (h : gm_K θ K mX7_set) (k : vp_in ((19 * ((30 * x1) + x2)) + x3) 6270 ∧ ∀ X17, X17 = gm_pA X 0 ((19 * ((30 * x1) + x2)) + x3).toNatClampNeg x4 → P X17) : gm_G θ K mX7_set (gm_Pv P) 0 [(0, .ref (gm_am θ)), (1, .int x1), (2, .int x2), (3, .int x3), (4, .int x4)] [] X := by
  refine gx_aload_n h 0 rfl dX7_set_0 ?_
  refine gm_get0 h rfl dX7_set_1 ?_
  refine gx_bipush (v := 19) h dX7_set_4 (by decide) ?_
  refine gx_bipush (v := 30) h dX7_set_6 (by decide) ?_
  refine gx_iload_n h 1 rfl dX7_set_8 ?_
  refine gx_imul h dX7_set_9 ?_
  refine gx_iload_n h 2 rfl dX7_set_10 ?_
  refine gx_iadd h dX7_set_11 ?_
  refine gx_imul h dX7_set_12 ?_
  refine gx_iload_n h 3 rfl dX7_set_13 ?_
  refine gx_iadd h dX7_set_14 ?_
  refine gx_iload h 4 rfl dX7_set_15 ?_
  refine gm_st0 h k.1 dX7_set_17 ?_
  generalize hz : gm_pA X 0 ((19 * ((30 * x1) + x2)) + x3).toNatClampNeg x4 = X17
  replace k := k.2 X17 hz.symm
  exact gx_vret h rfl dX7_set_18 ⟨rfl, k⟩
/-! signs -/
theorem em_signs {θ : gm_T} {P : Int32 → gm_X → Prop} {X : gm_X} {x1 : Int32} {x2 : Int32} {x3 : Int32} {x4 : Int32} {x5 : Int32} (body : ∀ K, gm_K θ K mX7_signs → gm_G θ K mX7_signs (gm_Pi P) 0 [(0, .ref (gm_am θ)), (1, .int x1), (2, .int x2), (3, .int x3), (4, .int x4), (5, .int x5)] [] X) : gx_C (gm_O θ) mX7_signs [.ref (gm_am θ), .int x1, .int x2, .int x3, .int x4, .int x5] X (gm_Pi P) :=
  gx_C.intro (gm_z θ) (by decide) (Nat.le_of_ble_eq_true rfl) body
theorem bm_signs_0 {θ : gm_T} {K : gx_K} {P : Int32 → gm_X → Prop} {X : gm_X} {x1 x2 x3 x4 x5 : Int32} (h : gm_K θ K mX7_signs) (k : gm_G θ K mX7_signs (gm_Pi P) 3 [(0, .ref (gm_am θ)), (1, .int x1), (2, .int x2), (3, .int x3), (4, .int x4), (5, .int x5), (6, .int x2)] [] X) : gm_G θ K mX7_signs (gm_Pi P) 0 [(0, .ref (gm_am θ)), (1, .int x1), (2, .int x2), (3, .int x3), (4, .int x4), (5, .int x5)] [] X := by
  refine gx_iload_n h 2 rfl dX7_signs_0 ?_
  refine gx_istore (L' := [(6, .int x2), (0, .ref (gm_am θ)), (1, .int x1), (2, .int x2), (3, .int x3), (4, .int x4), (5, .int x5)]) h (by decide) rfl dX7_signs_1 ?_
  exact gx_sub [1, 2, 3, 4, 5, 6, 0] rfl k
theorem bm_signs_3 {θ : gm_T} {K : gx_K} {P : Int32 → gm_X → Prop} {X : gm_X} {x1 x2 x3 x4 x5 x6 : Int32} (h : gm_K θ K mX7_signs) (k : ((x4 = 3 → gx_C (gm_O θ) mX7_at [.ref (gm_am θ), .int x6, .int x3] X (gm_Pi (fun r13 X13 => gx_C (gm_O θ) mX7_isLetter [.int r13] X13 (gm_Pi (fun r16 X16 => ((r16 = 0 → gm_G θ K mX7_signs (gm_Pi P) 81 [(0, .ref (gm_am θ)), (1, .int x1), (2, .int x2), (4, .int x4), (6, .int x6)] [] X16) ∧ (¬ r16 = 0 → gm_G θ K mX7_signs (gm_Pi P) 38 [(0, .ref (gm_am θ)), (1, .int x1), (2, .int x2), (3, .int x3), (4, .int x4), (5, .int x5), (6, .int x6)] [] X16))))))) ∧ (¬ x4 = 3 → gx_C (gm_O θ) mX7_at [.ref (gm_am θ), .int x6, .int x3] X (gm_Pi (fun r29 X29 => gx_C (gm_O θ) mX7_isSign [.int r29] X29 (gm_Pi (fun r32 X32 => ((r32 = 0 → gm_G θ K mX7_signs (gm_Pi P) 81 [(0, .ref (gm_am θ)), (1, .int x1), (2, .int x2), (4, .int x4), (6, .int x6)] [] X32) ∧ (¬ r32 = 0 → gm_G θ K mX7_signs (gm_Pi P) 38 [(0, .ref (gm_am θ)), (1, .int x1), (2, .int x2), (3, .int x3), (4, .int x4), (5, .int x5), (6, .int x6)] [] X32))))))))) : gm_G θ K mX7_signs (gm_Pi P) 3 [(0, .ref (gm_am θ)), (1, .int x1), (2, .int x2), (3, .int x3), (4, .int x4), (5, .int x5), (6, .int x6)] [] X := by
  refine gx_iload h 4 rfl dX7_signs_3 ?_
  refine gx_iconst (v := 3) h dX7_signs_5 (by decide) ?_
  refine gx_icmp_ne (tgt := 25) h (by decide) dX7_signs_6 (fun c => ?_) (fun c => ?_)
  · replace k := k.2 c
    refine gx_aload_n h 0 rfl dX7_signs_25 ?_
    refine gx_iload h 6 rfl dX7_signs_26 ?_
    refine gx_iload_n h 3 rfl dX7_signs_28 ?_
    refine gm_c_at h rfl ⟨Nat.le_of_ble_eq_true rfl, Nat.le_of_ble_eq_true rfl⟩ (Nat.le_of_ble_eq_true rfl) dX7_signs_29 (gx_C.mono k ?_)
    rintro _ X29 ⟨r29, rfl, k⟩
    refine ⟨r29, rfl, ?_⟩
    refine gm_c_isSign h rfl ⟨Nat.le_of_ble_eq_true rfl, Nat.le_of_ble_eq_true rfl⟩ (Nat.le_of_ble_eq_true rfl) dX7_signs_32 (gx_C.mono k ?_)
    rintro _ X32 ⟨r32, rfl, k⟩
    refine ⟨r32, rfl, ?_⟩
    refine gx_if_eq (tgt := 81) h (by decide) dX7_signs_35 (fun c => ?_) (fun c => ?_)
    · replace k := k.1 c
      exact gx_sub [0, 1, 2, 4, 6] rfl k
    · replace k := k.2 c
      exact k
  · replace k := k.1 c
    refine gx_aload_n h 0 rfl dX7_signs_9 ?_
    refine gx_iload h 6 rfl dX7_signs_10 ?_
    refine gx_iload_n h 3 rfl dX7_signs_12 ?_
    refine gm_c_at h rfl ⟨Nat.le_of_ble_eq_true rfl, Nat.le_of_ble_eq_true rfl⟩ (Nat.le_of_ble_eq_true rfl) dX7_signs_13 (gx_C.mono k ?_)
    rintro _ X13 ⟨r13, rfl, k⟩
    refine ⟨r13, rfl, ?_⟩
    refine gm_c_isLetter h rfl ⟨Nat.le_of_ble_eq_true rfl, Nat.le_of_ble_eq_true rfl⟩ (Nat.le_of_ble_eq_true rfl) dX7_signs_16 (gx_C.mono k ?_)
    rintro _ X16 ⟨r16, rfl, k⟩
    refine ⟨r16, rfl, ?_⟩
    refine gx_if_eq (tgt := 81) h (by decide) dX7_signs_19 (fun c => ?_) (fun c => ?_)
    · replace k := k.1 c
      exact gx_sub [0, 1, 2, 4, 6] rfl k
    · replace k := k.2 c
      refine gx_goto (tgt := 38) h (by decide) dX7_signs_22 ?_
      exact k
theorem bm_signs_38 {θ : gm_T} {K : gx_K} {P : Int32 → gm_X → Prop} {X : gm_X} {x1 x2 x3 x4 x5 x6 : Int32} (h : gm_K θ K mX7_signs) (k : (((x6 - x2) = x5 → P ((-1) - x6) X) ∧ (¬ (x6 - x2) = x5 → vp_in x6 400 ∧ gx_C (gm_O θ) mX7_set [.ref (gm_am θ), .int 8, .int x1, .int (((x4 + 1) + x6) - x2), .int (X.2 3 x6.toNatClampNeg)] X (gm_Pv (fun X72 => gm_G θ K mX7_signs (gm_Pi P) 3 [(0, .ref (gm_am θ)), (1, .int x1), (2, .int x2), (3, .int x3), (4, .int x4), (5, .int x5), (6, .int (x6 + 1))] [] X72))))) : gm_G θ K mX7_signs (gm_Pi P) 38 [(0, .ref (gm_am θ)), (1, .int x1), (2, .int x2), (3, .int x3), (4, .int x4), (5, .int x5), (6, .int x6)] [] X := by
  refine gx_iload h 6 rfl dX7_signs_38 ?_
  refine gx_iload_n h 2 rfl dX7_signs_40 ?_
  refine gx_isub h dX7_signs_41 ?_
  refine gx_iload h 5 rfl dX7_signs_42 ?_
  refine gx_icmp_ne (tgt := 52) h (by decide) dX7_signs_44 (fun c => ?_) (fun c => ?_)
  · replace k := k.2 c
    refine gx_aload_n h 0 rfl dX7_signs_52 ?_
    refine gx_bipush (v := 8) h dX7_signs_53 (by decide) ?_
    refine gx_iload_n h 1 rfl dX7_signs_55 ?_
    refine gx_iload h 4 rfl dX7_signs_56 ?_
    refine gx_iconst (v := 1) h dX7_signs_58 (by decide) ?_
    refine gx_iadd h dX7_signs_59 ?_
    refine gx_iload h 6 rfl dX7_signs_60 ?_
    refine gx_iadd h dX7_signs_62 ?_
    refine gx_iload_n h 2 rfl dX7_signs_63 ?_
    refine gx_isub h dX7_signs_64 ?_
    refine gx_aload_n h 0 rfl dX7_signs_65 ?_
    refine gm_get3 h rfl dX7_signs_66 ?_
    refine gx_iload h 6 rfl dX7_signs_69 ?_
    refine gm_ld3 h k.1 dX7_signs_71 ?_
    replace k := k.2
    refine gm_c_set h rfl ⟨Nat.le_of_ble_eq_true rfl, Nat.le_of_ble_eq_true rfl⟩ (Nat.le_of_ble_eq_true rfl) dX7_signs_72 (gx_C.mono k ?_)
    rintro _ X72 ⟨rfl, k⟩
    refine ⟨rfl, ?_⟩
    refine gx_iinc (v := x6 + 1) (L' := [(6, .int (x6 + 1)), (0, .ref (gm_am θ)), (1, .int x1), (2, .int x2), (3, .int x3), (4, .int x4), (5, .int x5)]) h 6 rfl rfl (by decide) rfl dX7_signs_75 ?_
    refine gx_goto (tgt := 3) h (by decide) dX7_signs_78 ?_
    exact gx_sub [1, 2, 3, 4, 5, 6, 0] rfl k
  · replace k := k.1 c
    refine gx_iconst (v := (-1)) h dX7_signs_47 (by decide) ?_
    refine gx_iload h 6 rfl dX7_signs_48 ?_
    refine gx_isub h dX7_signs_50 ?_
    exact gx_iret h rfl dX7_signs_51 ⟨_, rfl, k⟩
theorem bm_signs_81 {θ : gm_T} {K : gx_K} {P : Int32 → gm_X → Prop} {X : gm_X} {x1 x2 x4 x6 : Int32} (h : gm_K θ K mX7_signs) (k : gx_C (gm_O θ) mX7_set [.ref (gm_am θ), .int 8, .int x1, .int x4, .int (x6 - x2)] X (gm_Pv (fun X91 => ((x6 = x2 → P ((-1) - x6) X91) ∧ (¬ x6 = x2 → P x6 X91))))) : gm_G θ K mX7_signs (gm_Pi P) 81 [(0, .ref (gm_am θ)), (1, .int x1), (2, .int x2), (4, .int x4), (6, .int x6)] [] X := by
  refine gx_aload_n h 0 rfl dX7_signs_81 ?_
  refine gx_bipush (v := 8) h dX7_signs_82 (by decide) ?_
  refine gx_iload_n h 1 rfl dX7_signs_84 ?_
  refine gx_iload h 3 rfl dX7_signs_85 ?_
  refine gx_iload h 4 rfl dX7_signs_87 ?_
  refine gx_iload_n h 2 rfl dX7_signs_89 ?_
  refine gx_isub h dX7_signs_90 ?_
  refine gm_c_set h rfl ⟨Nat.le_of_ble_eq_true rfl, Nat.le_of_ble_eq_true rfl⟩ (Nat.le_of_ble_eq_true rfl) dX7_signs_91 (gx_C.mono k ?_)
  rintro _ X91 ⟨rfl, k⟩
  refine ⟨rfl, ?_⟩
  refine gx_iload h 4 rfl dX7_signs_94 ?_
  refine gx_iload_n h 2 rfl dX7_signs_96 ?_
  refine gx_icmp_ne (tgt := 107) h (by decide) dX7_signs_97 (fun c => ?_) (fun c => ?_)
  · replace k := k.2 c
    refine gx_iload h 4 rfl dX7_signs_107 ?_
    exact gx_iret h rfl dX7_signs_109 ⟨_, rfl, k⟩
  · replace k := k.1 c
    refine gx_iconst (v := (-1)) h dX7_signs_100 (by decide) ?_
    refine gx_iload h 4 rfl dX7_signs_101 ?_
    refine gx_isub h dX7_signs_103 ?_
    refine gx_goto (tgt := 109) h (by decide) dX7_signs_104 ?_
    exact gx_iret h rfl dX7_signs_109 ⟨_, rfl, k⟩
/-! isSign -/
theorem em_isSign {θ : gm_T} {P : Int32 → gm_X → Prop} {X : gm_X} {x0 : Int32} (body : ∀ K, gm_K θ K mX7_isSign → gm_G θ K mX7_isSign (gm_Pi P) 0 [(0, .int x0)] [] X) : gx_C (gm_O θ) mX7_isSign [.int x0] X (gm_Pi P) :=
  gx_C.intro (gm_z θ) (by decide) (Nat.le_of_ble_eq_true rfl) body
theorem bm_isSign_0 {θ : gm_T} {K : gx_K} {P : Int32 → gm_X → Prop} {X : gm_X} {x0 : Int32} (h : gm_K θ K mX7_isSign) (k : gx_C (gm_O θ) mX7_isLetter [.int x0] X (gm_Pi (fun r1 X1 => ((r1 = 0 → ((x0 < 48 → gm_G θ K mX7_isSign (gm_Pi P) 23 [] [] X1) ∧ (¬ x0 < 48 → ((57 < x0 → gm_G θ K mX7_isSign (gm_Pi P) 23 [] [] X1) ∧ (¬ 57 < x0 → gm_G θ K mX7_isSign (gm_Pi P) 19 [] [] X1))))) ∧ (¬ r1 = 0 → gm_G θ K mX7_isSign (gm_Pi P) 19 [] [] X1))))) : gm_G θ K mX7_isSign (gm_Pi P) 0 [(0, .int x0)] [] X := by
  refine gx_iload_n h 0 rfl dX7_isSign_0 ?_
  refine gm_c_isLetter h rfl ⟨Nat.le_of_ble_eq_true rfl, Nat.le_of_ble_eq_true rfl⟩ (Nat.le_of_ble_eq_true rfl) dX7_isSign_1 (gx_C.mono k ?_)
  rintro _ X1 ⟨r1, rfl, k⟩
  refine ⟨r1, rfl, ?_⟩
  refine gx_if_ne (tgt := 19) h (by decide) dX7_isSign_4 (fun c => ?_) (fun c => ?_)
  · replace k := k.2 c
    exact gx_sub [] rfl k
  · replace k := k.1 c
    refine gx_iload_n h 0 rfl dX7_isSign_7 ?_
    refine gx_bipush (v := 48) h dX7_isSign_8 (by decide) ?_
    refine gx_icmp_lt (tgt := 23) h (by decide) dX7_isSign_10 (fun c => ?_) (fun c => ?_)
    · replace k := k.1 c
      exact gx_sub [] rfl k
    · replace k := k.2 c
      refine gx_iload_n h 0 rfl dX7_isSign_13 ?_
      refine gx_bipush (v := 57) h dX7_isSign_14 (by decide) ?_
      refine gx_icmp_gt (tgt := 23) h (by decide) dX7_isSign_16 (fun c => ?_) (fun c => ?_)
      · replace k := k.1 c
        exact gx_sub [] rfl k
      · replace k := k.2 c
        exact gx_sub [] rfl k
theorem bm_isSign_19 {θ : gm_T} {K : gx_K} {P : Int32 → gm_X → Prop} {X : gm_X} (h : gm_K θ K mX7_isSign) (k : P 1 X) : gm_G θ K mX7_isSign (gm_Pi P) 19 [] [] X := by
  refine gx_iconst (v := 1) h dX7_isSign_19 (by decide) ?_
  refine gx_goto (tgt := 24) h (by decide) dX7_isSign_20 ?_
  exact gx_zret h rfl rfl dX7_isSign_24 ⟨_, rfl, k⟩
theorem bm_isSign_23 {θ : gm_T} {K : gx_K} {P : Int32 → gm_X → Prop} {X : gm_X} (h : gm_K θ K mX7_isSign) (k : P 0 X) : gm_G θ K mX7_isSign (gm_Pi P) 23 [] [] X := by
  refine gx_iconst (v := 0) h dX7_isSign_23 (by decide) ?_
  exact gx_zret h rfl rfl dX7_isSign_24 ⟨_, rfl, k⟩
/-! of -/
theorem em_of {θ : gm_T} {P : Int32 → gm_X → Prop} {X : gm_X} {x1 : Int32} {x2 : Int32} {x3 : Int32} (body : ∀ K, gm_K θ K mX7_of → gm_G θ K mX7_of (gm_Pi P) 0 [(0, .ref (gm_am θ)), (1, .int x1), (2, .int x2), (3, .int x3)] [] X) : gx_C (gm_O θ) mX7_of [.ref (gm_am θ), .int x1, .int x2, .int x3] X (gm_Pi P) :=
  gx_C.intro (gm_z θ) (by decide) (Nat.le_of_ble_eq_true rfl) body
theorem bm_of_0 {θ : gm_T} {K : gx_K} {P : Int32 → gm_X → Prop} {X : gm_X} {x1 x2 x3 : Int32} (h : gm_K θ K mX7_of) (k : vp_in ((19 * ((30 * x1) + x2)) + x3) 6270 ∧ P (X.2 0 ((19 * ((30 * x1) + x2)) + x3).toNatClampNeg) X) : gm_G θ K mX7_of (gm_Pi P) 0 [(0, .ref (gm_am θ)), (1, .int x1), (2, .int x2), (3, .int x3)] [] X := by
  refine gx_aload_n h 0 rfl dX7_of_0 ?_
  refine gm_get0 h rfl dX7_of_1 ?_
  refine gx_bipush (v := 19) h dX7_of_4 (by decide) ?_
  refine gx_bipush (v := 30) h dX7_of_6 (by decide) ?_
  refine gx_iload_n h 1 rfl dX7_of_8 ?_
  refine gx_imul h dX7_of_9 ?_
  refine gx_iload_n h 2 rfl dX7_of_10 ?_
  refine gx_iadd h dX7_of_11 ?_
  refine gx_imul h dX7_of_12 ?_
  refine gx_iload_n h 3 rfl dX7_of_13 ?_
  refine gx_iadd h dX7_of_14 ?_
  refine gm_ld0 h k.1 dX7_of_15 ?_
  replace k := k.2
  exact gx_iret h rfl dX7_of_16 ⟨_, rfl, k⟩
/-! isLike -/
theorem em_isLike {θ : gm_T} {P : Int32 → gm_X → Prop} {X : gm_X} {x1 : Int32} {x2 : Int32} {x3 : Int32} {x4 : Int32} {x5 : Int32} (body : ∀ K, gm_K θ K mX7_isLike → gm_G θ K mX7_isLike (gm_Pi P) 0 [(0, .ref (gm_am θ)), (1, .int x1), (2, .int x2), (3, .int x3), (4, .int x4), (5, .int x5)] [] X) : gx_C (gm_O θ) mX7_isLike [.ref (gm_am θ), .int x1, .int x2, .int x3, .int x4, .int x5] X (gm_Pi P) :=
  gx_C.intro (gm_z θ) (by decide) (Nat.le_of_ble_eq_true rfl) body
theorem bm_isLike_0 {θ : gm_T} {K : gx_K} {P : Int32 → gm_X → Prop} {X : gm_X} {x1 x2 x3 x4 x5 : Int32} (h : gm_K θ K mX7_isLike) (k : gx_C (gm_O θ) mX7_of [.ref (gm_am θ), .int x1, .int x2, .int x5] X (gm_Pi (fun r5 X5 => gx_C (gm_O θ) mX7_of [.ref (gm_am θ), .int x3, .int x4, .int x5] X5 (gm_Pi (fun r16 X16 => ((r16 = r5 → gm_G θ K mX7_isLike (gm_Pi P) 29 [(0, .ref (gm_am θ)), (1, .int x1), (2, .int x2), (3, .int x3), (4, .int x4), (5, .int x5), (6, .int r5), (7, .int 1)] [] X16) ∧ (¬ r16 = r5 → P 0 X16))))))) : gm_G θ K mX7_isLike (gm_Pi P) 0 [(0, .ref (gm_am θ)), (1, .int x1), (2, .int x2), (3, .int x3), (4, .int x4), (5, .int x5)] [] X := by
  refine gx_aload_n h 0 rfl dX7_isLike_0 ?_
  refine gx_iload_n h 1 rfl dX7_isLike_1 ?_
  refine gx_iload_n h 2 rfl dX7_isLike_2 ?_
  refine gx_iload h 5 rfl dX7_isLike_3 ?_
  refine gm_c_of h rfl ⟨Nat.le_of_ble_eq_true rfl, Nat.le_of_ble_eq_true rfl⟩ (Nat.le_of_ble_eq_true rfl) dX7_isLike_5 (gx_C.mono k ?_)
  rintro _ X5 ⟨r5, rfl, k⟩
  refine ⟨r5, rfl, ?_⟩
  refine gx_istore (L' := [(6, .int r5), (0, .ref (gm_am θ)), (1, .int x1), (2, .int x2), (3, .int x3), (4, .int x4), (5, .int x5)]) h (by decide) rfl dX7_isLike_8 ?_
  refine gx_aload_n h 1 rfl dX7_isLike_10 ?_
  refine gx_iload_n h 4 rfl dX7_isLike_11 ?_
  refine gx_iload h 5 rfl dX7_isLike_12 ?_
  refine gx_iload h 6 rfl dX7_isLike_14 ?_
  refine gm_c_of h rfl ⟨Nat.le_of_ble_eq_true rfl, Nat.le_of_ble_eq_true rfl⟩ (Nat.le_of_ble_eq_true rfl) dX7_isLike_16 (gx_C.mono k ?_)
  rintro _ X16 ⟨r16, rfl, k⟩
  refine ⟨r16, rfl, ?_⟩
  refine gx_iload h 0 rfl dX7_isLike_19 ?_
  refine gx_icmp_eq (tgt := 26) h (by decide) dX7_isLike_21 (fun c => ?_) (fun c => ?_)
  · replace k := k.1 c
    refine gx_iconst (v := 1) h dX7_isLike_26 (by decide) ?_
    refine gx_istore (L' := [(7, .int 1), (6, .int r5), (0, .ref (gm_am θ)), (1, .int x1), (2, .int x2), (3, .int x3), (4, .int x4), (5, .int x5)]) h (by decide) rfl dX7_isLike_27 ?_
    exact gx_sub [2, 3, 4, 5, 6, 7, 1, 0] rfl k
  · replace k := k.2 c
    refine gx_iconst (v := 0) h dX7_isLike_24 (by decide) ?_
    exact gx_zret h rfl rfl dX7_isLike_25 ⟨_, rfl, k⟩
theorem bm_isLike_29 {θ : gm_T} {K : gx_K} {P : Int32 → gm_X → Prop} {X : gm_X} {x1 x2 x3 x4 x5 x6 x7 : Int32} (h : gm_K θ K mX7_isLike) (k : ((x6 < x7 → P 1 X) ∧ (¬ x6 < x7 → gx_C (gm_O θ) mX7_of [.ref (gm_am θ), .int x1, .int x2, .int (x5 + x7)] X (gm_Pi (fun r44 X44 => gx_C (gm_O θ) mX7_of [.ref (gm_am θ), .int x3, .int x4, .int (x5 + x7)] X44 (gm_Pi (fun r56 X56 => ((r44 = r56 → gm_G θ K mX7_isLike (gm_Pi P) 29 [(0, .ref (gm_am θ)), (1, .int x1), (2, .int x2), (3, .int x3), (4, .int x4), (5, .int x5), (6, .int x6), (7, .int (x7 + 1))] [] X56) ∧ (¬ r44 = r56 → P 0 X56))))))))) : gm_G θ K mX7_isLike (gm_Pi P) 29 [(0, .ref (gm_am θ)), (1, .int x1), (2, .int x2), (3, .int x3), (4, .int x4), (5, .int x5), (6, .int x6), (7, .int x7)] [] X := by
  refine gx_iload h 7 rfl dX7_isLike_29 ?_
  refine gx_iload h 6 rfl dX7_isLike_31 ?_
  refine gx_icmp_gt (tgt := 70) h (by decide) dX7_isLike_33 (fun c => ?_) (fun c => ?_)
  · replace k := k.1 c
    refine gx_iconst (v := 1) h dX7_isLike_70 (by decide) ?_
    exact gx_zret h rfl rfl dX7_isLike_71 ⟨_, rfl, k⟩
  · replace k := k.2 c
    refine gx_aload_n h 0 rfl dX7_isLike_36 ?_
    refine gx_iload_n h 1 rfl dX7_isLike_37 ?_
    refine gx_iload_n h 2 rfl dX7_isLike_38 ?_
    refine gx_iload h 5 rfl dX7_isLike_39 ?_
    refine gx_iload h 7 rfl dX7_isLike_41 ?_
    refine gx_iadd h dX7_isLike_43 ?_
    refine gm_c_of h rfl ⟨Nat.le_of_ble_eq_true rfl, Nat.le_of_ble_eq_true rfl⟩ (Nat.le_of_ble_eq_true rfl) dX7_isLike_44 (gx_C.mono k ?_)
    rintro _ X44 ⟨r44, rfl, k⟩
    refine ⟨r44, rfl, ?_⟩
    refine gx_aload_n h 0 rfl dX7_isLike_47 ?_
    refine gx_iload_n h 3 rfl dX7_isLike_48 ?_
    refine gx_iload h 4 rfl dX7_isLike_49 ?_
    refine gx_iload h 5 rfl dX7_isLike_51 ?_
    refine gx_iload h 7 rfl dX7_isLike_53 ?_
    refine gx_iadd h dX7_isLike_55 ?_
    refine gm_c_of h rfl ⟨Nat.le_of_ble_eq_true rfl, Nat.le_of_ble_eq_true rfl⟩ (Nat.le_of_ble_eq_true rfl) dX7_isLike_56 (gx_C.mono k ?_)
    rintro _ X56 ⟨r56, rfl, k⟩
    refine ⟨r56, rfl, ?_⟩
    refine gx_icmp_eq (tgt := 64) h (by decide) dX7_isLike_59 (fun c => ?_) (fun c => ?_)
    · replace k := k.1 c
      refine gx_iinc (v := x7 + 1) (L' := [(7, .int (x7 + 1)), (0, .ref (gm_am θ)), (1, .int x1), (2, .int x2), (3, .int x3), (4, .int x4), (5, .int x5), (6, .int x6)]) h 7 rfl rfl (by decide) rfl dX7_isLike_64 ?_
      refine gx_goto (tgt := 29) h (by decide) dX7_isLike_67 ?_
      exact gx_sub [1, 2, 3, 4, 5, 6, 7, 0] rfl k
    · replace k := k.2 c
      refine gx_iconst (v := 0) h dX7_isLike_62 (by decide) ?_
      exact gx_zret h rfl rfl dX7_isLike_63 ⟨_, rfl, k⟩
/-! end -/
theorem em_end {θ : gm_T} {P : Int32 → gm_X → Prop} {X : gm_X} {x1 : Int32} {x2 : Int32} (body : ∀ K, gm_K θ K mX7_end → gm_G θ K mX7_end (gm_Pi P) 0 [(0, .ref (gm_am θ)), (1, .int x1), (2, .int x2)] [] X) : gx_C (gm_O θ) mX7_end [.ref (gm_am θ), .int x1, .int x2] X (gm_Pi P) :=
  gx_C.intro (gm_z θ) (by decide) (Nat.le_of_ble_eq_true rfl) body
theorem bm_end_0 {θ : gm_T} {K : gx_K} {P : Int32 → gm_X → Prop} {X : gm_X} {x1 x2 : Int32} (h : gm_K θ K mX7_end) (k : gm_G θ K mX7_end (gm_Pi P) 4 [(0, .ref (gm_am θ)), (1, .int x1), (2, .int x2), (3, .int (x2 + 1))] [] X) : gm_G θ K mX7_end (gm_Pi P) 0 [(0, .ref (gm_am θ)), (1, .int x1), (2, .int x2)] [] X := by
  refine gx_iload_n h 2 rfl dX7_end_0 ?_
  refine gx_iconst (v := 1) h dX7_end_1 (by decide) ?_
  refine gx_iadd h dX7_end_2 ?_
  refine gx_istore_n (L' := [(3, .int (x2 + 1)), (0, .ref (gm_am θ)), (1, .int x1), (2, .int x2)]) h (by decide) rfl dX7_end_3 ?_
  exact gx_sub [1, 2, 3, 0] rfl k
theorem bm_end_4 {θ : gm_T} {K : gx_K} {P : Int32 → gm_X → Prop} {X : gm_X} {x1 x2 x3 : Int32} (h : gm_K θ K mX7_end) (k : vp_in x1 11 ∧ (((X.2 1 x1.toNatClampNeg) ≤ x3 → gm_G θ K mX7_end (gm_Pi P) 35 [(3, .int x3)] [] X) ∧ (¬ (X.2 1 x1.toNatClampNeg) ≤ x3 → gx_C (gm_O θ) mX7_deep [.ref (gm_am θ), .int x1, .int x3] X (gm_Pi (fun r17 X17 => gx_C (gm_O θ) mX7_deep [.ref (gm_am θ), .int x1, .int x2] X17 (gm_Pi (fun r23 X23 => ((r17 ≤ r23 → gm_G θ K mX7_end (gm_Pi P) 35 [(3, .int x3)] [] X23) ∧ (¬ r17 ≤ r23 → gm_G θ K mX7_end (gm_Pi P) 4 [(0, .ref (gm_am θ)), (1, .int x1), (2, .int x2), (3, .int (x3 + 1))] [] X23))))))))) : gm_G θ K mX7_end (gm_Pi P) 4 [(0, .ref (gm_am θ)), (1, .int x1), (2, .int x2), (3, .int x3)] [] X := by
  refine gx_iload_n h 3 rfl dX7_end_4 ?_
  refine gx_aload_n h 0 rfl dX7_end_5 ?_
  refine gm_get1 h rfl dX7_end_6 ?_
  refine gx_iload_n h 1 rfl dX7_end_9 ?_
  refine gm_ld1 h k.1 dX7_end_10 ?_
  replace k := k.2
  refine gx_icmp_ge (tgt := 35) h (by decide) dX7_end_11 (fun c => ?_) (fun c => ?_)
  · replace k := k.1 c
    exact gx_sub [3] rfl k
  · replace k := k.2 c
    refine gx_aload_n h 0 rfl dX7_end_14 ?_
    refine gx_iload_n h 1 rfl dX7_end_15 ?_
    refine gx_iload_n h 3 rfl dX7_end_16 ?_
    refine gm_c_deep h rfl ⟨Nat.le_of_ble_eq_true rfl, Nat.le_of_ble_eq_true rfl⟩ (Nat.le_of_ble_eq_true rfl) dX7_end_17 (gx_C.mono k ?_)
    rintro _ X17 ⟨r17, rfl, k⟩
    refine ⟨r17, rfl, ?_⟩
    refine gx_aload_n h 0 rfl dX7_end_20 ?_
    refine gx_iload_n h 1 rfl dX7_end_21 ?_
    refine gx_iload_n h 2 rfl dX7_end_22 ?_
    refine gm_c_deep h rfl ⟨Nat.le_of_ble_eq_true rfl, Nat.le_of_ble_eq_true rfl⟩ (Nat.le_of_ble_eq_true rfl) dX7_end_23 (gx_C.mono k ?_)
    rintro _ X23 ⟨r23, rfl, k⟩
    refine ⟨r23, rfl, ?_⟩
    refine gx_icmp_le (tgt := 35) h (by decide) dX7_end_26 (fun c => ?_) (fun c => ?_)
    · replace k := k.1 c
      exact gx_sub [3] rfl k
    · replace k := k.2 c
      refine gx_iinc (v := x3 + 1) (L' := [(3, .int (x3 + 1)), (0, .ref (gm_am θ)), (1, .int x1), (2, .int x2)]) h 3 rfl rfl (by decide) rfl dX7_end_29 ?_
      refine gx_goto (tgt := 4) h (by decide) dX7_end_32 ?_
      exact gx_sub [1, 2, 3, 0] rfl k
theorem bm_end_35 {θ : gm_T} {K : gx_K} {P : Int32 → gm_X → Prop} {X : gm_X} {x3 : Int32} (h : gm_K θ K mX7_end) (k : P x3 X) : gm_G θ K mX7_end (gm_Pi P) 35 [(3, .int x3)] [] X := by
  refine gx_iload_n h 0 rfl dX7_end_35 ?_
  exact gx_iret h rfl dX7_end_36 ⟨_, rfl, k⟩
/-! deep -/
theorem em_deep {θ : gm_T} {P : Int32 → gm_X → Prop} {X : gm_X} {x1 : Int32} {x2 : Int32} (body : ∀ K, gm_K θ K mX7_deep → gm_G θ K mX7_deep (gm_Pi P) 0 [(0, .ref (gm_am θ)), (1, .int x1), (2, .int x2)] [] X) : gx_C (gm_O θ) mX7_deep [.ref (gm_am θ), .int x1, .int x2] X (gm_Pi P) :=
  gx_C.intro (gm_z θ) (by decide) (Nat.le_of_ble_eq_true rfl) body
theorem bm_deep_0 {θ : gm_T} {K : gx_K} {P : Int32 → gm_X → Prop} {X : gm_X} {x1 x2 : Int32} (h : gm_K θ K mX7_deep) (k : gx_C (gm_O θ) mX7_of [.ref (gm_am θ), .int x1, .int x2, .int 2] X (gm_Pi (fun r4 X4 => P r4 X4))) : gm_G θ K mX7_deep (gm_Pi P) 0 [(0, .ref (gm_am θ)), (1, .int x1), (2, .int x2)] [] X := by
  refine gx_aload_n h 0 rfl dX7_deep_0 ?_
  refine gx_iload_n h 1 rfl dX7_deep_1 ?_
  refine gx_iload_n h 2 rfl dX7_deep_2 ?_
  refine gx_iconst (v := 2) h dX7_deep_3 (by decide) ?_
  refine gm_c_of h rfl ⟨Nat.le_of_ble_eq_true rfl, Nat.le_of_ble_eq_true rfl⟩ (Nat.le_of_ble_eq_true rfl) dX7_deep_4 (gx_C.mono k ?_)
  rintro _ X4 ⟨r4, rfl, k⟩
  refine ⟨r4, rfl, ?_⟩
  exact gx_iret h rfl dX7_deep_7 ⟨_, rfl, k⟩
/-! copyAll -/
theorem em_copyAll {θ : gm_T} {P : gm_X → Prop} {X : gm_X} {x1 : Int32} {x2 : Int32} (body : ∀ K, gm_K θ K mX7_copyAll → gm_G θ K mX7_copyAll (gm_Pv P) 0 [(0, .ref (gm_am θ)), (1, .int x1), (2, .int x2)] [] X) : gx_C (gm_O θ) mX7_copyAll [.ref (gm_am θ), .int x1, .int x2] X (gm_Pv P) :=
  gx_C.intro (gm_z θ) (by decide) (Nat.le_of_ble_eq_true rfl) body
theorem bm_copyAll_0 {θ : gm_T} {K : gx_K} {P : gm_X → Prop} {X : gm_X} {x1 x2 : Int32} (h : gm_K θ K mX7_copyAll) (k : gm_G θ K mX7_copyAll (gm_Pv P) 2 [(0, .ref (gm_am θ)), (1, .int x1), (2, .int x2), (3, .int 0)] [] X) : gm_G θ K mX7_copyAll (gm_Pv P) 0 [(0, .ref (gm_am θ)), (1, .int x1), (2, .int x2)] [] X := by
  refine gx_iconst (v := 0) h dX7_copyAll_0 (by decide) ?_
  refine gx_istore_n (L' := [(3, .int 0), (0, .ref (gm_am θ)), (1, .int x1), (2, .int x2)]) h (by decide) rfl dX7_copyAll_1 ?_
  exact gx_sub [1, 2, 3, 0] rfl k
theorem bm_copyAll_2 {θ : gm_T} {K : gx_K} {P : gm_X → Prop} {X : gm_X} {x1 x2 x3 : Int32} (h : gm_K θ K mX7_copyAll) (k : vp_in x1 11 ∧ (((X.2 1 x1.toNatClampNeg) ≤ x3 → vp_in x1 11 ∧ vp_in x2 11 ∧ ∀ X37, X37 = gm_pA X 1 x2.toNatClampNeg (X.2 1 x1.toNatClampNeg) → P X37) ∧ (¬ (X.2 1 x1.toNatClampNeg) ≤ x3 → gx_C (gm_O θ) mX7_carry [.ref (gm_am θ), .int x1, .int x3, .int x2, .int x3] X (gm_Pv (fun X17 => gm_G θ K mX7_copyAll (gm_Pv P) 2 [(0, .ref (gm_am θ)), (1, .int x1), (2, .int x2), (3, .int (x3 + 1))] [] X17))))) : gm_G θ K mX7_copyAll (gm_Pv P) 2 [(0, .ref (gm_am θ)), (1, .int x1), (2, .int x2), (3, .int x3)] [] X := by
  refine gx_iload_n h 3 rfl dX7_copyAll_2 ?_
  refine gx_aload_n h 0 rfl dX7_copyAll_3 ?_
  refine gm_get1 h rfl dX7_copyAll_4 ?_
  refine gx_iload_n h 1 rfl dX7_copyAll_7 ?_
  refine gm_ld1 h k.1 dX7_copyAll_8 ?_
  replace k := k.2
  refine gx_icmp_ge (tgt := 26) h (by decide) dX7_copyAll_9 (fun c => ?_) (fun c => ?_)
  · replace k := k.1 c
    refine gx_aload_n h 0 rfl dX7_copyAll_26 ?_
    refine gm_get1 h rfl dX7_copyAll_27 ?_
    refine gx_iload_n h 2 rfl dX7_copyAll_30 ?_
    refine gx_aload_n h 0 rfl dX7_copyAll_31 ?_
    refine gm_get1 h rfl dX7_copyAll_32 ?_
    refine gx_iload_n h 1 rfl dX7_copyAll_35 ?_
    refine gm_ld1 h k.1 dX7_copyAll_36 ?_
    replace k := k.2
    refine gm_st1 h k.1 dX7_copyAll_37 ?_
    generalize hz : gm_pA X 1 x2.toNatClampNeg (X.2 1 x1.toNatClampNeg) = X37
    replace k := k.2 X37 hz.symm
    exact gx_vret h rfl dX7_copyAll_38 ⟨rfl, k⟩
  · replace k := k.2 c
    refine gx_aload_n h 0 rfl dX7_copyAll_12 ?_
    refine gx_iload_n h 1 rfl dX7_copyAll_13 ?_
    refine gx_iload_n h 3 rfl dX7_copyAll_14 ?_
    refine gx_iload_n h 2 rfl dX7_copyAll_15 ?_
    refine gx_iload_n h 3 rfl dX7_copyAll_16 ?_
    refine gm_c_carry h rfl ⟨Nat.le_of_ble_eq_true rfl, Nat.le_of_ble_eq_true rfl⟩ (Nat.le_of_ble_eq_true rfl) dX7_copyAll_17 (gx_C.mono k ?_)
    rintro _ X17 ⟨rfl, k⟩
    refine ⟨rfl, ?_⟩
    refine gx_iinc (v := x3 + 1) (L' := [(3, .int (x3 + 1)), (0, .ref (gm_am θ)), (1, .int x1), (2, .int x2)]) h 3 rfl rfl (by decide) rfl dX7_copyAll_20 ?_
    refine gx_goto (tgt := 2) h (by decide) dX7_copyAll_23 ?_
    exact gx_sub [1, 2, 3, 0] rfl k
/-! carry -/
theorem em_carry {θ : gm_T} {P : gm_X → Prop} {X : gm_X} {x1 : Int32} {x2 : Int32} {x3 : Int32} {x4 : Int32} (body : ∀ K, gm_K θ K mX7_carry → gm_G θ K mX7_carry (gm_Pv P) 0 [(0, .ref (gm_am θ)), (1, .int x1), (2, .int x2), (3, .int x3), (4, .int x4)] [] X) : gx_C (gm_O θ) mX7_carry [.ref (gm_am θ), .int x1, .int x2, .int x3, .int x4] X (gm_Pv P) :=
  gx_C.intro (gm_z θ) (by decide) (Nat.le_of_ble_eq_true rfl) body
theorem bm_carry_0 {θ : gm_T} {K : gx_K} {P : gm_X → Prop} {X : gm_X} {x1 x2 x3 x4 : Int32} (h : gm_K θ K mX7_carry) (k : gm_G θ K mX7_carry (gm_Pv P) 3 [(0, .ref (gm_am θ)), (1, .int x1), (2, .int x2), (3, .int x3), (4, .int x4), (5, .int 0)] [] X) : gm_G θ K mX7_carry (gm_Pv P) 0 [(0, .ref (gm_am θ)), (1, .int x1), (2, .int x2), (3, .int x3), (4, .int x4)] [] X := by
  refine gx_iconst (v := 0) h dX7_carry_0 (by decide) ?_
  refine gx_istore (L' := [(5, .int 0), (0, .ref (gm_am θ)), (1, .int x1), (2, .int x2), (3, .int x3), (4, .int x4)]) h (by decide) rfl dX7_carry_1 ?_
  exact gx_sub [1, 2, 3, 4, 5, 0] rfl k
theorem bm_carry_3 {θ : gm_T} {K : gx_K} {P : gm_X → Prop} {X : gm_X} {x1 x2 x3 x4 x5 : Int32} (h : gm_K θ K mX7_carry) (k : ((19 ≤ x5 → P X) ∧ (¬ 19 ≤ x5 → gx_C (gm_O θ) mX7_of [.ref (gm_am θ), .int x1, .int x2, .int x5] X (gm_Pi (fun r21 X21 => gx_C (gm_O θ) mX7_set [.ref (gm_am θ), .int x3, .int x4, .int x5, .int r21] X21 (gm_Pv (fun X24 => gm_G θ K mX7_carry (gm_Pv P) 3 [(0, .ref (gm_am θ)), (1, .int x1), (2, .int x2), (3, .int x3), (4, .int x4), (5, .int (x5 + 1))] [] X24))))))) : gm_G θ K mX7_carry (gm_Pv P) 3 [(0, .ref (gm_am θ)), (1, .int x1), (2, .int x2), (3, .int x3), (4, .int x4), (5, .int x5)] [] X := by
  refine gx_iload h 5 rfl dX7_carry_3 ?_
  refine gx_bipush (v := 19) h dX7_carry_5 (by decide) ?_
  refine gx_icmp_ge (tgt := 33) h (by decide) dX7_carry_7 (fun c => ?_) (fun c => ?_)
  · replace k := k.1 c
    exact gx_vret h rfl dX7_carry_33 ⟨rfl, k⟩
  · replace k := k.2 c
    refine gx_aload_n h 0 rfl dX7_carry_10 ?_
    refine gx_iload_n h 3 rfl dX7_carry_11 ?_
    refine gx_iload h 4 rfl dX7_carry_12 ?_
    refine gx_iload h 5 rfl dX7_carry_14 ?_
    refine gx_aload_n h 0 rfl dX7_carry_16 ?_
    refine gx_iload_n h 1 rfl dX7_carry_17 ?_
    refine gx_iload_n h 2 rfl dX7_carry_18 ?_
    refine gx_iload h 5 rfl dX7_carry_19 ?_
    refine gm_c_of h rfl ⟨Nat.le_of_ble_eq_true rfl, Nat.le_of_ble_eq_true rfl⟩ (Nat.le_of_ble_eq_true rfl) dX7_carry_21 (gx_C.mono k ?_)
    rintro _ X21 ⟨r21, rfl, k⟩
    refine ⟨r21, rfl, ?_⟩
    refine gm_c_set h rfl ⟨Nat.le_of_ble_eq_true rfl, Nat.le_of_ble_eq_true rfl⟩ (Nat.le_of_ble_eq_true rfl) dX7_carry_24 (gx_C.mono k ?_)
    rintro _ X24 ⟨rfl, k⟩
    refine ⟨rfl, ?_⟩
    refine gx_iinc (v := x5 + 1) (L' := [(5, .int (x5 + 1)), (0, .ref (gm_am θ)), (1, .int x1), (2, .int x2), (3, .int x3), (4, .int x4)]) h 5 rfl rfl (by decide) rfl dX7_carry_27 ?_
    refine gx_goto (tgt := 3) h (by decide) dX7_carry_30 ?_
    exact gx_sub [1, 2, 3, 4, 5, 0] rfl k
/-! write -/
theorem em_write {θ : gm_T} {P : Int32 → gm_X → Prop} {X : gm_X} {x1 : Int32} (body : ∀ K, gm_K θ K mX7_write → gm_G θ K mX7_write (gm_Pi P) 0 [(0, .ref (gm_am θ)), (1, .int x1)] [] X) : gx_C (gm_O θ) mX7_write [.ref (gm_am θ), .int x1] X (gm_Pi P) :=
  gx_C.intro (gm_z θ) (by decide) (Nat.le_of_ble_eq_true rfl) body
theorem bm_write_0 {θ : gm_T} {K : gx_K} {P : Int32 → gm_X → Prop} {X : gm_X} {x1 : Int32} (h : gm_K θ K mX7_write) (k : gx_C (gm_O θ) mX7_lacks [.ref (gm_am θ), .int x1] X (gm_Pi (fun r2 X2 => ((0 ≤ r2 → ∀ X18, X18 = gm_pI X2 6 0 → gm_G θ K mX7_write (gm_Pi P) 26 [(0, .ref (gm_am θ)), (1, .int x1), (3, .int 0), (4, .int 0)] [] X18) ∧ (¬ 0 ≤ r2 → gx_C (gm_O θ) mX7_found0 [.ref (gm_am θ), .int r2] X2 (gm_Pi (fun r12 X12 => P r12 X12))))))) : gm_G θ K mX7_write (gm_Pi P) 0 [(0, .ref (gm_am θ)), (1, .int x1)] [] X := by
  refine gx_aload_n h 0 rfl dX7_write_0 ?_
  refine gx_iload_n h 1 rfl dX7_write_1 ?_
  refine gm_c_lacks h rfl ⟨Nat.le_of_ble_eq_true rfl, Nat.le_of_ble_eq_true rfl⟩ (Nat.le_of_ble_eq_true rfl) dX7_write_2 (gx_C.mono k ?_)
  rintro _ X2 ⟨r2, rfl, k⟩
  refine ⟨r2, rfl, ?_⟩
  refine gx_istore_n (L' := [(2, .int r2), (0, .ref (gm_am θ)), (1, .int x1)]) h (by decide) rfl dX7_write_5 ?_
  refine gx_iload_n h 0 rfl dX7_write_6 ?_
  refine gx_if_ge (tgt := 16) h (by decide) dX7_write_7 (fun c => ?_) (fun c => ?_)
  · replace k := k.1 c
    refine gx_aload_n h 1 rfl dX7_write_16 ?_
    refine gx_iconst (v := 0) h dX7_write_17 (by decide) ?_
    refine gm_put6 h rfl dX7_write_18 ?_
    generalize hz : gm_pI X2 6 0 = X18
    replace k := k X18 hz.symm
    refine gx_iconst (v := 0) h dX7_write_21 (by decide) ?_
    refine gx_istore_n (L' := [(3, .int 0), (2, .int r2), (0, .ref (gm_am θ)), (1, .int x1)]) h (by decide) rfl dX7_write_22 ?_
    refine gx_iconst (v := 0) h dX7_write_23 (by decide) ?_
    refine gx_istore (L' := [(4, .int 0), (3, .int 0), (2, .int r2), (0, .ref (gm_am θ)), (1, .int x1)]) h (by decide) rfl dX7_write_24 ?_
    exact gx_sub [3, 4, 1, 0] rfl k
  · replace k := k.2 c
    refine gx_aload_n h 1 rfl dX7_write_10 ?_
    refine gx_iload_n h 0 rfl dX7_write_11 ?_
    refine gm_c_found0 h rfl ⟨Nat.le_of_ble_eq_true rfl, Nat.le_of_ble_eq_true rfl⟩ (Nat.le_of_ble_eq_true rfl) dX7_write_12 (gx_C.mono k ?_)
    rintro _ X12 ⟨r12, rfl, k⟩
    refine ⟨r12, rfl, ?_⟩
    exact gx_iret h rfl dX7_write_15 ⟨_, rfl, k⟩
theorem bm_write_26 {θ : gm_T} {K : gx_K} {P : Int32 → gm_X → Prop} {X : gm_X} {x1 x3 x4 : Int32} (h : gm_K θ K mX7_write) (k : vp_in x1 11 ∧ (((X.2 1 x1.toNatClampNeg) ≤ x4 → vp_in x1 11 ∧ gx_C (gm_O θ) mX7_closes [.ref (gm_am θ), .int x1, .int ((X.2 1 x1.toNatClampNeg) - 1), .int 0] X (gm_Pv (fun X328 => P (X328.1 6) X328))) ∧ (¬ (X.2 1 x1.toNatClampNeg) ≤ x4 → ((x4 ≤ 0 → gm_G θ K mX7_write (gm_Pi P) 69 [(0, .ref (gm_am θ)), (1, .int x1), (3, .int x3), (4, .int x4)] [] X) ∧ (¬ x4 ≤ 0 → gx_C (gm_O θ) mX7_deep [.ref (gm_am θ), .int x1, .int x4] X (gm_Pi (fun r46 X46 => gx_C (gm_O θ) mX7_deep [.ref (gm_am θ), .int x1, .int (x4 - 1)] X46 (gm_Pi (fun r55 X55 => ((r46 = (r55 + 1) → gm_G θ K mX7_write (gm_Pi P) 96 [(0, .ref (gm_am θ)), (1, .int x1), (3, .int (x3 + 1)), (4, .int x4)] [] X55) ∧ (¬ r46 = (r55 + 1) → gm_G θ K mX7_write (gm_Pi P) 69 [(0, .ref (gm_am θ)), (1, .int x1), (3, .int x3), (4, .int x4)] [] X55))))))))))) : gm_G θ K mX7_write (gm_Pi P) 26 [(0, .ref (gm_am θ)), (1, .int x1), (3, .int x3), (4, .int x4)] [] X := by
  refine gx_iload h 3 rfl dX7_write_26 ?_
  refine gx_aload_n h 0 rfl dX7_write_28 ?_
  refine gm_get1 h rfl dX7_write_29 ?_
  refine gx_iload_n h 1 rfl dX7_write_32 ?_
  refine gm_ld1 h k.1 dX7_write_33 ?_
  replace k := k.2
  refine gx_icmp_ge (tgt := 317) h (by decide) dX7_write_34 (fun c => ?_) (fun c => ?_)
  · replace k := k.1 c
    refine gx_aload_n h 0 rfl dX7_write_317 ?_
    refine gx_iload_n h 1 rfl dX7_write_318 ?_
    refine gx_aload_n h 0 rfl dX7_write_319 ?_
    refine gm_get1 h rfl dX7_write_320 ?_
    refine gx_iload_n h 1 rfl dX7_write_323 ?_
    refine gm_ld1 h k.1 dX7_write_324 ?_
    replace k := k.2
    refine gx_iconst (v := 1) h dX7_write_325 (by decide) ?_
    refine gx_isub h dX7_write_326 ?_
    refine gx_iconst (v := 0) h dX7_write_327 (by decide) ?_
    refine gm_c_closes h rfl ⟨Nat.le_of_ble_eq_true rfl, Nat.le_of_ble_eq_true rfl⟩ (Nat.le_of_ble_eq_true rfl) dX7_write_328 (gx_C.mono k ?_)
    rintro _ X328 ⟨rfl, k⟩
    refine ⟨rfl, ?_⟩
    refine gx_aload_n h 0 rfl dX7_write_331 ?_
    refine gm_get6 h rfl dX7_write_332 ?_
    exact gx_iret h rfl dX7_write_335 ⟨_, rfl, k⟩
  · replace k := k.2 c
    refine gx_iload h 3 rfl dX7_write_37 ?_
    refine gx_if_le (tgt := 69) h (by decide) dX7_write_39 (fun c => ?_) (fun c => ?_)
    · replace k := k.1 c
      exact k
    · replace k := k.2 c
      refine gx_aload_n h 0 rfl dX7_write_42 ?_
      refine gx_iload_n h 1 rfl dX7_write_43 ?_
      refine gx_iload h 3 rfl dX7_write_44 ?_
      refine gm_c_deep h rfl ⟨Nat.le_of_ble_eq_true rfl, Nat.le_of_ble_eq_true rfl⟩ (Nat.le_of_ble_eq_true rfl) dX7_write_46 (gx_C.mono k ?_)
      rintro _ X46 ⟨r46, rfl, k⟩
      refine ⟨r46, rfl, ?_⟩
      refine gx_aload_n h 0 rfl dX7_write_49 ?_
      refine gx_iload_n h 1 rfl dX7_write_50 ?_
      refine gx_iload h 3 rfl dX7_write_51 ?_
      refine gx_iconst (v := 1) h dX7_write_53 (by decide) ?_
      refine gx_isub h dX7_write_54 ?_
      refine gm_c_deep h rfl ⟨Nat.le_of_ble_eq_true rfl, Nat.le_of_ble_eq_true rfl⟩ (Nat.le_of_ble_eq_true rfl) dX7_write_55 (gx_C.mono k ?_)
      rintro _ X55 ⟨r55, rfl, k⟩
      refine ⟨r55, rfl, ?_⟩
      refine gx_iconst (v := 1) h dX7_write_58 (by decide) ?_
      refine gx_iadd h dX7_write_59 ?_
      refine gx_icmp_ne (tgt := 69) h (by decide) dX7_write_60 (fun c => ?_) (fun c => ?_)
      · replace k := k.2 c
        exact k
      · replace k := k.1 c
        refine gx_iinc (v := x3 + 1) (L' := [(3, .int (x3 + 1)), (0, .ref (gm_am θ)), (1, .int x1), (4, .int x4)]) h 2 rfl rfl (by decide) rfl dX7_write_63 ?_
        refine gx_goto (tgt := 96) h (by decide) dX7_write_66 ?_
        exact gx_sub [1, 2, 0, 3] rfl k
theorem bm_write_69 {θ : gm_T} {K : gx_K} {P : Int32 → gm_X → Prop} {X : gm_X} {x1 x3 x4 : Int32} (h : gm_K θ K mX7_write) (k : ((x4 ≤ 0 → gm_G θ K mX7_write (gm_Pi P) 96 [(0, .ref (gm_am θ)), (1, .int x1), (3, .int x3), (4, .int x4)] [] X) ∧ (¬ x4 ≤ 0 → gx_C (gm_O θ) mX7_deep [.ref (gm_am θ), .int x1, .int x4] X (gm_Pi (fun r84 X84 => gx_C (gm_O θ) mX7_closes [.ref (gm_am θ), .int x1, .int (x4 - 1), .int r84] X84 (gm_Pv (fun X87 => gx_C (gm_O θ) mX7_writes [.ref (gm_am θ), .int 44] X87 (gm_Pv (fun X93 => gm_G θ K mX7_write (gm_Pi P) 96 [(0, .ref (gm_am θ)), (1, .int x1), (3, .int x3), (4, .int x4)] [] X93))))))))) : gm_G θ K mX7_write (gm_Pi P) 69 [(0, .ref (gm_am θ)), (1, .int x1), (3, .int x3), (4, .int x4)] [] X := by
  refine gx_iload h 3 rfl dX7_write_69 ?_
  refine gx_if_le (tgt := 96) h (by decide) dX7_write_71 (fun c => ?_) (fun c => ?_)
  · replace k := k.1 c
    exact k
  · replace k := k.2 c
    refine gx_aload_n h 0 rfl dX7_write_74 ?_
    refine gx_iload_n h 1 rfl dX7_write_75 ?_
    refine gx_iload h 3 rfl dX7_write_76 ?_
    refine gx_iconst (v := 1) h dX7_write_78 (by decide) ?_
    refine gx_isub h dX7_write_79 ?_
    refine gx_aload_n h 0 rfl dX7_write_80 ?_
    refine gx_iload_n h 1 rfl dX7_write_81 ?_
    refine gx_iload h 3 rfl dX7_write_82 ?_
    refine gm_c_deep h rfl ⟨Nat.le_of_ble_eq_true rfl, Nat.le_of_ble_eq_true rfl⟩ (Nat.le_of_ble_eq_true rfl) dX7_write_84 (gx_C.mono k ?_)
    rintro _ X84 ⟨r84, rfl, k⟩
    refine ⟨r84, rfl, ?_⟩
    refine gm_c_closes h rfl ⟨Nat.le_of_ble_eq_true rfl, Nat.le_of_ble_eq_true rfl⟩ (Nat.le_of_ble_eq_true rfl) dX7_write_87 (gx_C.mono k ?_)
    rintro _ X87 ⟨rfl, k⟩
    refine ⟨rfl, ?_⟩
    refine gx_aload_n h 0 rfl dX7_write_90 ?_
    refine gx_bipush (v := 44) h dX7_write_91 (by decide) ?_
    refine gm_c_writes h rfl ⟨Nat.le_of_ble_eq_true rfl, Nat.le_of_ble_eq_true rfl⟩ (Nat.le_of_ble_eq_true rfl) dX7_write_93 (gx_C.mono k ?_)
    rintro _ X93 ⟨rfl, k⟩
    refine ⟨rfl, ?_⟩
    exact k
theorem bm_write_96 {θ : gm_T} {K : gx_K} {P : Int32 → gm_X → Prop} {X : gm_X} {x1 x3 x4 : Int32} (h : gm_K θ K mX7_write) (k : gm_G θ K mX7_write (gm_Pi P) 99 [(0, .ref (gm_am θ)), (1, .int x1), (3, .int x3), (4, .int x4), (5, .int 0)] [] X) : gm_G θ K mX7_write (gm_Pi P) 96 [(0, .ref (gm_am θ)), (1, .int x1), (3, .int x3), (4, .int x4)] [] X := by
  refine gx_iconst (v := 0) h dX7_write_96 (by decide) ?_
  refine gx_istore (L' := [(5, .int 0), (0, .ref (gm_am θ)), (1, .int x1), (3, .int x3), (4, .int x4)]) h (by decide) rfl dX7_write_97 ?_
  exact gx_sub [1, 2, 3, 4, 0] rfl k
theorem bm_write_99 {θ : gm_T} {K : gx_K} {P : Int32 → gm_X → Prop} {X : gm_X} {x1 x3 x4 x5 : Int32} (h : gm_K θ K mX7_write) (k : gx_C (gm_O θ) mX7_of [.ref (gm_am θ), .int x1, .int x4, .int 3] X (gm_Pi (fun r106 X106 => ((r106 ≤ x5 → gx_C (gm_O θ) mX7_of [.ref (gm_am θ), .int x1, .int x4, .int 10] X106 (gm_Pi (fun r139 X139 => ((r139 ≤ 0 → gm_G θ K mX7_write (gm_Pi P) 151 [(0, .ref (gm_am θ)), (1, .int x1), (3, .int x3), (4, .int x4)] [] X139) ∧ (¬ r139 ≤ 0 → gx_C (gm_O θ) mX7_writes [.ref (gm_am θ), .int 61] X139 (gm_Pv (fun X148 => gm_G θ K mX7_write (gm_Pi P) 151 [(0, .ref (gm_am θ)), (1, .int x1), (3, .int x3), (4, .int x4)] [] X148))))))) ∧ (¬ r106 ≤ x5 → gx_C (gm_O θ) mX7_of [.ref (gm_am θ), .int x1, .int x4, .int (4 + x5)] X106 (gm_Pi (fun r121 X121 => gx_C (gm_O θ) mX7_writes [.ref (gm_am θ), .int r121] X121 (gm_Pv (fun X124 => gm_G θ K mX7_write (gm_Pi P) 99 [(0, .ref (gm_am θ)), (1, .int x1), (3, .int x3), (4, .int x4), (5, .int (x5 + 1))] [] X124))))))))) : gm_G θ K mX7_write (gm_Pi P) 99 [(0, .ref (gm_am θ)), (1, .int x1), (3, .int x3), (4, .int x4), (5, .int x5)] [] X := by
  refine gx_iload h 4 rfl dX7_write_99 ?_
  refine gx_aload_n h 0 rfl dX7_write_101 ?_
  refine gx_iload_n h 1 rfl dX7_write_102 ?_
  refine gx_iload h 3 rfl dX7_write_103 ?_
  refine gx_iconst (v := 3) h dX7_write_105 (by decide) ?_
  refine gm_c_of h rfl ⟨Nat.le_of_ble_eq_true rfl, Nat.le_of_ble_eq_true rfl⟩ (Nat.le_of_ble_eq_true rfl) dX7_write_106 (gx_C.mono k ?_)
  rintro _ X106 ⟨r106, rfl, k⟩
  refine ⟨r106, rfl, ?_⟩
  refine gx_icmp_ge (tgt := 133) h (by decide) dX7_write_109 (fun c => ?_) (fun c => ?_)
  · replace k := k.1 c
    refine gx_aload_n h 0 rfl dX7_write_133 ?_
    refine gx_iload_n h 1 rfl dX7_write_134 ?_
    refine gx_iload h 3 rfl dX7_write_135 ?_
    refine gx_bipush (v := 10) h dX7_write_137 (by decide) ?_
    refine gm_c_of h rfl ⟨Nat.le_of_ble_eq_true rfl, Nat.le_of_ble_eq_true rfl⟩ (Nat.le_of_ble_eq_true rfl) dX7_write_139 (gx_C.mono k ?_)
    rintro _ X139 ⟨r139, rfl, k⟩
    refine ⟨r139, rfl, ?_⟩
    refine gx_if_le (tgt := 151) h (by decide) dX7_write_142 (fun c => ?_) (fun c => ?_)
    · replace k := k.1 c
      exact gx_sub [0, 1, 2, 3] rfl k
    · replace k := k.2 c
      refine gx_aload_n h 0 rfl dX7_write_145 ?_
      refine gx_bipush (v := 61) h dX7_write_146 (by decide) ?_
      refine gm_c_writes h rfl ⟨Nat.le_of_ble_eq_true rfl, Nat.le_of_ble_eq_true rfl⟩ (Nat.le_of_ble_eq_true rfl) dX7_write_148 (gx_C.mono k ?_)
      rintro _ X148 ⟨rfl, k⟩
      refine ⟨rfl, ?_⟩
      exact gx_sub [0, 1, 2, 3] rfl k
  · replace k := k.2 c
    refine gx_aload_n h 0 rfl dX7_write_112 ?_
    refine gx_aload_n h 0 rfl dX7_write_113 ?_
    refine gx_iload_n h 1 rfl dX7_write_114 ?_
    refine gx_iload h 3 rfl dX7_write_115 ?_
    refine gx_iconst (v := 4) h dX7_write_117 (by decide) ?_
    refine gx_iload h 4 rfl dX7_write_118 ?_
    refine gx_iadd h dX7_write_120 ?_
    refine gm_c_of h rfl ⟨Nat.le_of_ble_eq_true rfl, Nat.le_of_ble_eq_true rfl⟩ (Nat.le_of_ble_eq_true rfl) dX7_write_121 (gx_C.mono k ?_)
    rintro _ X121 ⟨r121, rfl, k⟩
    refine ⟨r121, rfl, ?_⟩
    refine gm_c_writes h rfl ⟨Nat.le_of_ble_eq_true rfl, Nat.le_of_ble_eq_true rfl⟩ (Nat.le_of_ble_eq_true rfl) dX7_write_124 (gx_C.mono k ?_)
    rintro _ X124 ⟨rfl, k⟩
    refine ⟨rfl, ?_⟩
    refine gx_iinc (v := x5 + 1) (L' := [(5, .int (x5 + 1)), (0, .ref (gm_am θ)), (1, .int x1), (3, .int x3), (4, .int x4)]) h 4 rfl rfl (by decide) rfl dX7_write_127 ?_
    refine gx_goto (tgt := 99) h (by decide) dX7_write_130 ?_
    exact gx_sub [1, 2, 3, 4, 0] rfl k
theorem bm_write_151 {θ : gm_T} {K : gx_K} {P : Int32 → gm_X → Prop} {X : gm_X} {x1 x3 x4 : Int32} (h : gm_K θ K mX7_write) (k : gm_G θ K mX7_write (gm_Pi P) 154 [(0, .ref (gm_am θ)), (1, .int x1), (3, .int x3), (4, .int x4), (5, .int 0)] [] X) : gm_G θ K mX7_write (gm_Pi P) 151 [(0, .ref (gm_am θ)), (1, .int x1), (3, .int x3), (4, .int x4)] [] X := by
  refine gx_iconst (v := 0) h dX7_write_151 (by decide) ?_
  refine gx_istore (L' := [(5, .int 0), (0, .ref (gm_am θ)), (1, .int x1), (3, .int x3), (4, .int x4)]) h (by decide) rfl dX7_write_152 ?_
  exact gx_sub [1, 2, 3, 4, 0] rfl k
theorem bm_write_154 {θ : gm_T} {K : gx_K} {P : Int32 → gm_X → Prop} {X : gm_X} {x1 x3 x4 x5 : Int32} (h : gm_K θ K mX7_write) (k : gx_C (gm_O θ) mX7_of [.ref (gm_am θ), .int x1, .int x4, .int 10] X (gm_Pi (fun r162 X162 => ((r162 ≤ x5 → gx_C (gm_O θ) mX7_of [.ref (gm_am θ), .int x1, .int x4, .int 1] X162 (gm_Pi (fun r195 X195 => gx_C (gm_O θ) mX7_end [.ref (gm_am θ), .int x1, .int x4] X195 (gm_Pi (fun r204 X204 => ((r204 ≤ (x4 + 1) → gm_G θ K mX7_write (gm_Pi P) 219 [(0, .ref (gm_am θ)), (1, .int x1), (3, .int x3), (4, .int x4), (5, .int r195)] [.int 0] X204) ∧ (¬ r204 ≤ (x4 + 1) → gm_G θ K mX7_write (gm_Pi P) 219 [(0, .ref (gm_am θ)), (1, .int x1), (3, .int x3), (4, .int x4), (5, .int r195)] [.int 1] X204))))))) ∧ (¬ r162 ≤ x5 → gx_C (gm_O θ) mX7_of [.ref (gm_am θ), .int x1, .int x4, .int (11 + x5)] X162 (gm_Pi (fun r178 X178 => gx_C (gm_O θ) mX7_writes [.ref (gm_am θ), .int r178] X178 (gm_Pv (fun X181 => gm_G θ K mX7_write (gm_Pi P) 154 [(0, .ref (gm_am θ)), (1, .int x1), (3, .int x3), (4, .int x4), (5, .int (x5 + 1))] [] X181))))))))) : gm_G θ K mX7_write (gm_Pi P) 154 [(0, .ref (gm_am θ)), (1, .int x1), (3, .int x3), (4, .int x4), (5, .int x5)] [] X := by
  refine gx_iload h 4 rfl dX7_write_154 ?_
  refine gx_aload_n h 0 rfl dX7_write_156 ?_
  refine gx_iload_n h 1 rfl dX7_write_157 ?_
  refine gx_iload h 3 rfl dX7_write_158 ?_
  refine gx_bipush (v := 10) h dX7_write_160 (by decide) ?_
  refine gm_c_of h rfl ⟨Nat.le_of_ble_eq_true rfl, Nat.le_of_ble_eq_true rfl⟩ (Nat.le_of_ble_eq_true rfl) dX7_write_162 (gx_C.mono k ?_)
  rintro _ X162 ⟨r162, rfl, k⟩
  refine ⟨r162, rfl, ?_⟩
  refine gx_icmp_ge (tgt := 190) h (by decide) dX7_write_165 (fun c => ?_) (fun c => ?_)
  · replace k := k.1 c
    refine gx_aload_n h 0 rfl dX7_write_190 ?_
    refine gx_iload_n h 1 rfl dX7_write_191 ?_
    refine gx_iload h 3 rfl dX7_write_192 ?_
    refine gx_iconst (v := 1) h dX7_write_194 (by decide) ?_
    refine gm_c_of h rfl ⟨Nat.le_of_ble_eq_true rfl, Nat.le_of_ble_eq_true rfl⟩ (Nat.le_of_ble_eq_true rfl) dX7_write_195 (gx_C.mono k ?_)
    rintro _ X195 ⟨r195, rfl, k⟩
    refine ⟨r195, rfl, ?_⟩
    refine gx_istore (L' := [(5, .int r195), (0, .ref (gm_am θ)), (1, .int x1), (3, .int x3), (4, .int x4)]) h (by decide) rfl dX7_write_198 ?_
    refine gx_aload_n h 1 rfl dX7_write_200 ?_
    refine gx_iload_n h 2 rfl dX7_write_201 ?_
    refine gx_iload h 4 rfl dX7_write_202 ?_
    refine gm_c_end h rfl ⟨Nat.le_of_ble_eq_true rfl, Nat.le_of_ble_eq_true rfl⟩ (Nat.le_of_ble_eq_true rfl) dX7_write_204 (gx_C.mono k ?_)
    rintro _ X204 ⟨r204, rfl, k⟩
    refine ⟨r204, rfl, ?_⟩
    refine gx_iload h 4 rfl dX7_write_207 ?_
    refine gx_iconst (v := 1) h dX7_write_209 (by decide) ?_
    refine gx_iadd h dX7_write_210 ?_
    refine gx_icmp_le (tgt := 218) h (by decide) dX7_write_211 (fun c => ?_) (fun c => ?_)
    · replace k := k.1 c
      refine gx_iconst (v := 0) h dX7_write_218 (by decide) ?_
      exact gx_sub [1, 2, 3, 4, 0] rfl k
    · replace k := k.2 c
      refine gx_iconst (v := 1) h dX7_write_214 (by decide) ?_
      refine gx_goto (tgt := 219) h (by decide) dX7_write_215 ?_
      exact gx_sub [1, 2, 3, 4, 0] rfl k
  · replace k := k.2 c
    refine gx_aload_n h 0 rfl dX7_write_168 ?_
    refine gx_aload_n h 0 rfl dX7_write_169 ?_
    refine gx_iload_n h 1 rfl dX7_write_170 ?_
    refine gx_iload h 3 rfl dX7_write_171 ?_
    refine gx_bipush (v := 11) h dX7_write_173 (by decide) ?_
    refine gx_iload h 4 rfl dX7_write_175 ?_
    refine gx_iadd h dX7_write_177 ?_
    refine gm_c_of h rfl ⟨Nat.le_of_ble_eq_true rfl, Nat.le_of_ble_eq_true rfl⟩ (Nat.le_of_ble_eq_true rfl) dX7_write_178 (gx_C.mono k ?_)
    rintro _ X178 ⟨r178, rfl, k⟩
    refine ⟨r178, rfl, ?_⟩
    refine gm_c_writes h rfl ⟨Nat.le_of_ble_eq_true rfl, Nat.le_of_ble_eq_true rfl⟩ (Nat.le_of_ble_eq_true rfl) dX7_write_181 (gx_C.mono k ?_)
    rintro _ X181 ⟨rfl, k⟩
    refine ⟨rfl, ?_⟩
    refine gx_iinc (v := x5 + 1) (L' := [(5, .int (x5 + 1)), (0, .ref (gm_am θ)), (1, .int x1), (3, .int x3), (4, .int x4)]) h 4 rfl rfl (by decide) rfl dX7_write_184 ?_
    refine gx_goto (tgt := 154) h (by decide) dX7_write_187 ?_
    exact gx_sub [1, 2, 3, 4, 0] rfl k
theorem bm_write_219 {θ : gm_T} {K : gx_K} {P : Int32 → gm_X → Prop} {X : gm_X} {x1 x3 x4 x5 s0 : Int32} (h : gm_K θ K mX7_write) (k : ((x5 = 1 → gx_C (gm_O θ) mX7_writes [.ref (gm_am θ), .int 123] X (gm_Pv (fun X230 => gm_G θ K mX7_write (gm_Pi P) 277 [(0, .ref (gm_am θ)), (1, .int x1), (3, .int x3), (4, .int x4), (5, .int x5), (6, .int s0)] [] X230))) ∧ (¬ x5 = 1 → ((x5 = 2 → gx_C (gm_O θ) mX7_writes [.ref (gm_am θ), .int 60] X (gm_Pv (fun X245 => gm_G θ K mX7_write (gm_Pi P) 277 [(0, .ref (gm_am θ)), (1, .int x1), (3, .int x3), (4, .int x4), (5, .int x5), (6, .int s0)] [] X245))) ∧ (¬ x5 = 2 → ((x5 = 3 → gx_C (gm_O θ) mX7_writes [.ref (gm_am θ), .int 33] X (gm_Pv (fun X260 => gm_G θ K mX7_write (gm_Pi P) 277 [(0, .ref (gm_am θ)), (1, .int x1), (3, .int x3), (4, .int x4), (5, .int x5), (6, .int s0)] [] X260))) ∧ (¬ x5 = 3 → ((s0 = 0 → gm_G θ K mX7_write (gm_Pi P) 277 [(0, .ref (gm_am θ)), (1, .int x1), (3, .int x3), (4, .int x4), (5, .int x5), (6, .int s0)] [] X) ∧ (¬ s0 = 0 → gx_C (gm_O θ) mX7_writes [.ref (gm_am θ), .int 40] X (gm_Pv (fun X274 => gm_G θ K mX7_write (gm_Pi P) 277 [(0, .ref (gm_am θ)), (1, .int x1), (3, .int x3), (4, .int x4), (5, .int x5), (6, .int s0)] [] X274))))))))))) : gm_G θ K mX7_write (gm_Pi P) 219 [(0, .ref (gm_am θ)), (1, .int x1), (3, .int x3), (4, .int x4), (5, .int x5)] [.int s0] X := by
  refine gx_istore (L' := [(6, .int s0), (0, .ref (gm_am θ)), (1, .int x1), (3, .int x3), (4, .int x4), (5, .int x5)]) h (by decide) rfl dX7_write_219 ?_
  refine gx_iload h 5 rfl dX7_write_221 ?_
  refine gx_iconst (v := 1) h dX7_write_223 (by decide) ?_
  refine gx_icmp_ne (tgt := 236) h (by decide) dX7_write_224 (fun c => ?_) (fun c => ?_)
  · replace k := k.2 c
    refine gx_iload h 5 rfl dX7_write_236 ?_
    refine gx_iconst (v := 2) h dX7_write_238 (by decide) ?_
    refine gx_icmp_ne (tgt := 251) h (by decide) dX7_write_239 (fun c => ?_) (fun c => ?_)
    · replace k := k.2 c
      refine gx_iload h 5 rfl dX7_write_251 ?_
      refine gx_iconst (v := 3) h dX7_write_253 (by decide) ?_
      refine gx_icmp_ne (tgt := 266) h (by decide) dX7_write_254 (fun c => ?_) (fun c => ?_)
      · replace k := k.2 c
        refine gx_iload h 0 rfl dX7_write_266 ?_
        refine gx_if_eq (tgt := 277) h (by decide) dX7_write_268 (fun c => ?_) (fun c => ?_)
        · replace k := k.1 c
          exact gx_sub [1, 2, 3, 4, 5, 0] rfl k
        · replace k := k.2 c
          refine gx_aload_n h 1 rfl dX7_write_271 ?_
          refine gx_bipush (v := 40) h dX7_write_272 (by decide) ?_
          refine gm_c_writes h rfl ⟨Nat.le_of_ble_eq_true rfl, Nat.le_of_ble_eq_true rfl⟩ (Nat.le_of_ble_eq_true rfl) dX7_write_274 (gx_C.mono k ?_)
          rintro _ X274 ⟨rfl, k⟩
          refine ⟨rfl, ?_⟩
          exact gx_sub [1, 2, 3, 4, 5, 0] rfl k
      · replace k := k.1 c
        refine gx_aload_n h 1 rfl dX7_write_257 ?_
        refine gx_bipush (v := 33) h dX7_write_258 (by decide) ?_
        refine gm_c_writes h rfl ⟨Nat.le_of_ble_eq_true rfl, Nat.le_of_ble_eq_true rfl⟩ (Nat.le_of_ble_eq_true rfl) dX7_write_260 (gx_C.mono k ?_)
        rintro _ X260 ⟨rfl, k⟩
        refine ⟨rfl, ?_⟩
        refine gx_goto (tgt := 277) h (by decide) dX7_write_263 ?_
        exact gx_sub [1, 2, 3, 4, 5, 0] rfl k
    · replace k := k.1 c
      refine gx_aload_n h 1 rfl dX7_write_242 ?_
      refine gx_bipush (v := 60) h dX7_write_243 (by decide) ?_
      refine gm_c_writes h rfl ⟨Nat.le_of_ble_eq_true rfl, Nat.le_of_ble_eq_true rfl⟩ (Nat.le_of_ble_eq_true rfl) dX7_write_245 (gx_C.mono k ?_)
      rintro _ X245 ⟨rfl, k⟩
      refine ⟨rfl, ?_⟩
      refine gx_goto (tgt := 277) h (by decide) dX7_write_248 ?_
      exact gx_sub [1, 2, 3, 4, 5, 0] rfl k
  · replace k := k.1 c
    refine gx_aload_n h 1 rfl dX7_write_227 ?_
    refine gx_bipush (v := 123) h dX7_write_228 (by decide) ?_
    refine gm_c_writes h rfl ⟨Nat.le_of_ble_eq_true rfl, Nat.le_of_ble_eq_true rfl⟩ (Nat.le_of_ble_eq_true rfl) dX7_write_230 (gx_C.mono k ?_)
    rintro _ X230 ⟨rfl, k⟩
    refine ⟨rfl, ?_⟩
    refine gx_goto (tgt := 277) h (by decide) dX7_write_233 ?_
    exact gx_sub [1, 2, 3, 4, 5, 0] rfl k
theorem bm_write_277 {θ : gm_T} {K : gx_K} {P : Int32 → gm_X → Prop} {X : gm_X} {x1 x3 x4 x5 x6 : Int32} (h : gm_K θ K mX7_write) (k : ((x6 = 0 → ((x5 = 1 → gx_C (gm_O θ) mX7_writes [.ref (gm_am θ), .int 125] X (gm_Pv (fun X291 => gm_G θ K mX7_write (gm_Pi P) 294 [(0, .ref (gm_am θ)), (1, .int x1), (3, .int x3), (4, .int x4), (5, .int x5), (6, .int x6)] [] X291))) ∧ (¬ x5 = 1 → gm_G θ K mX7_write (gm_Pi P) 294 [(0, .ref (gm_am θ)), (1, .int x1), (3, .int x3), (4, .int x4), (5, .int x5), (6, .int x6)] [] X))) ∧ (¬ x6 = 0 → gm_G θ K mX7_write (gm_Pi P) 294 [(0, .ref (gm_am θ)), (1, .int x1), (3, .int x3), (4, .int x4), (5, .int x5), (6, .int x6)] [] X))) : gm_G θ K mX7_write (gm_Pi P) 277 [(0, .ref (gm_am θ)), (1, .int x1), (3, .int x3), (4, .int x4), (5, .int x5), (6, .int x6)] [] X := by
  refine gx_iload h 5 rfl dX7_write_277 ?_
  refine gx_if_ne (tgt := 294) h (by decide) dX7_write_279 (fun c => ?_) (fun c => ?_)
  · replace k := k.2 c
    exact k
  · replace k := k.1 c
    refine gx_iload h 4 rfl dX7_write_282 ?_
    refine gx_iconst (v := 1) h dX7_write_284 (by decide) ?_
    refine gx_icmp_ne (tgt := 294) h (by decide) dX7_write_285 (fun c => ?_) (fun c => ?_)
    · replace k := k.2 c
      exact k
    · replace k := k.1 c
      refine gx_aload_n h 0 rfl dX7_write_288 ?_
      refine gx_bipush (v := 125) h dX7_write_289 (by decide) ?_
      refine gm_c_writes h rfl ⟨Nat.le_of_ble_eq_true rfl, Nat.le_of_ble_eq_true rfl⟩ (Nat.le_of_ble_eq_true rfl) dX7_write_291 (gx_C.mono k ?_)
      rintro _ X291 ⟨rfl, k⟩
      refine ⟨rfl, ?_⟩
      exact k
theorem bm_write_294 {θ : gm_T} {K : gx_K} {P : Int32 → gm_X → Prop} {X : gm_X} {x1 x3 x4 x5 x6 : Int32} (h : gm_K θ K mX7_write) (k : ((x6 = 0 → ((x5 = 2 → gx_C (gm_O θ) mX7_writes [.ref (gm_am θ), .int 62] X (gm_Pv (fun X308 => gm_G θ K mX7_write (gm_Pi P) 311 [(0, .ref (gm_am θ)), (1, .int x1), (3, .int x3), (4, .int x4)] [] X308))) ∧ (¬ x5 = 2 → gm_G θ K mX7_write (gm_Pi P) 311 [(0, .ref (gm_am θ)), (1, .int x1), (3, .int x3), (4, .int x4)] [] X))) ∧ (¬ x6 = 0 → gm_G θ K mX7_write (gm_Pi P) 311 [(0, .ref (gm_am θ)), (1, .int x1), (3, .int x3), (4, .int x4)] [] X))) : gm_G θ K mX7_write (gm_Pi P) 294 [(0, .ref (gm_am θ)), (1, .int x1), (3, .int x3), (4, .int x4), (5, .int x5), (6, .int x6)] [] X := by
  refine gx_iload h 5 rfl dX7_write_294 ?_
  refine gx_if_ne (tgt := 311) h (by decide) dX7_write_296 (fun c => ?_) (fun c => ?_)
  · replace k := k.2 c
    exact gx_sub [0, 1, 2, 3] rfl k
  · replace k := k.1 c
    refine gx_iload h 4 rfl dX7_write_299 ?_
    refine gx_iconst (v := 2) h dX7_write_301 (by decide) ?_
    refine gx_icmp_ne (tgt := 311) h (by decide) dX7_write_302 (fun c => ?_) (fun c => ?_)
    · replace k := k.2 c
      exact gx_sub [0, 1, 2, 3] rfl k
    · replace k := k.1 c
      refine gx_aload_n h 0 rfl dX7_write_305 ?_
      refine gx_bipush (v := 62) h dX7_write_306 (by decide) ?_
      refine gm_c_writes h rfl ⟨Nat.le_of_ble_eq_true rfl, Nat.le_of_ble_eq_true rfl⟩ (Nat.le_of_ble_eq_true rfl) dX7_write_308 (gx_C.mono k ?_)
      rintro _ X308 ⟨rfl, k⟩
      refine ⟨rfl, ?_⟩
      exact gx_sub [0, 1, 2, 3] rfl k
theorem bm_write_311 {θ : gm_T} {K : gx_K} {P : Int32 → gm_X → Prop} {X : gm_X} {x1 x3 x4 : Int32} (h : gm_K θ K mX7_write) (k : gm_G θ K mX7_write (gm_Pi P) 26 [(0, .ref (gm_am θ)), (1, .int x1), (3, .int x3), (4, .int (x4 + 1))] [] X) : gm_G θ K mX7_write (gm_Pi P) 311 [(0, .ref (gm_am θ)), (1, .int x1), (3, .int x3), (4, .int x4)] [] X := by
  refine gx_iinc (v := x4 + 1) (L' := [(4, .int (x4 + 1)), (0, .ref (gm_am θ)), (1, .int x1), (3, .int x3)]) h 3 rfl rfl (by decide) rfl dX7_write_311 ?_
  refine gx_goto (tgt := 26) h (by decide) dX7_write_314 ?_
  exact gx_sub [1, 2, 3, 0] rfl k
/-! lacks -/
theorem em_lacks {θ : gm_T} {P : Int32 → gm_X → Prop} {X : gm_X} {x1 : Int32} (body : ∀ K, gm_K θ K mX7_lacks → gm_G θ K mX7_lacks (gm_Pi P) 0 [(0, .ref (gm_am θ)), (1, .int x1)] [] X) : gx_C (gm_O θ) mX7_lacks [.ref (gm_am θ), .int x1] X (gm_Pi P) :=
  gx_C.intro (gm_z θ) (by decide) (Nat.le_of_ble_eq_true rfl) body
theorem bm_lacks_0 {θ : gm_T} {K : gx_K} {P : Int32 → gm_X → Prop} {X : gm_X} {x1 : Int32} (h : gm_K θ K mX7_lacks) (k : gx_C (gm_O θ) mX7_isPlace [.int x1] X (gm_Pi (fun r1 X1 => ((r1 = 0 → P (-1) X1) ∧ (¬ r1 = 0 → vp_in x1 11 ∧ (((X1.2 1 x1.toNatClampNeg) = 0 → P (-2) X1) ∧ (¬ (X1.2 1 x1.toNatClampNeg) = 0 → P 0 X1))))))) : gm_G θ K mX7_lacks (gm_Pi P) 0 [(0, .ref (gm_am θ)), (1, .int x1)] [] X := by
  refine gx_iload_n h 1 rfl dX7_lacks_0 ?_
  refine gm_c_isPlace h rfl ⟨Nat.le_of_ble_eq_true rfl, Nat.le_of_ble_eq_true rfl⟩ (Nat.le_of_ble_eq_true rfl) dX7_lacks_1 (gx_C.mono k ?_)
  rintro _ X1 ⟨r1, rfl, k⟩
  refine ⟨r1, rfl, ?_⟩
  refine gx_if_ne (tgt := 11) h (by decide) dX7_lacks_4 (fun c => ?_) (fun c => ?_)
  · replace k := k.2 c
    refine gx_aload_n h 0 rfl dX7_lacks_11 ?_
    refine gm_get1 h rfl dX7_lacks_12 ?_
    refine gx_iload_n h 1 rfl dX7_lacks_15 ?_
    refine gm_ld1 h k.1 dX7_lacks_16 ?_
    replace k := k.2
    refine gx_if_ne (tgt := 25) h (by decide) dX7_lacks_17 (fun c => ?_) (fun c => ?_)
    · replace k := k.2 c
      refine gx_iconst (v := 0) h dX7_lacks_25 (by decide) ?_
      exact gx_iret h rfl dX7_lacks_26 ⟨_, rfl, k⟩
    · replace k := k.1 c
      refine gx_bipush (v := (-2)) h dX7_lacks_20 (by decide) ?_
      refine gx_goto (tgt := 26) h (by decide) dX7_lacks_22 ?_
      exact gx_iret h rfl dX7_lacks_26 ⟨_, rfl, k⟩
  · replace k := k.1 c
    refine gx_iconst (v := (-1)) h dX7_lacks_7 (by decide) ?_
    refine gx_goto (tgt := 26) h (by decide) dX7_lacks_8 ?_
    exact gx_iret h rfl dX7_lacks_26 ⟨_, rfl, k⟩
/-! closes -/
theorem em_closes {θ : gm_T} {P : gm_X → Prop} {X : gm_X} {x1 : Int32} {x2 : Int32} {x3 : Int32} (body : ∀ K, gm_K θ K mX7_closes → gm_G θ K mX7_closes (gm_Pv P) 0 [(0, .ref (gm_am θ)), (1, .int x1), (2, .int x2), (3, .int x3)] [] X) : gx_C (gm_O θ) mX7_closes [.ref (gm_am θ), .int x1, .int x2, .int x3] X (gm_Pv P) :=
  gx_C.intro (gm_z θ) (by decide) (Nat.le_of_ble_eq_true rfl) body
theorem bm_closes_0 {θ : gm_T} {K : gx_K} {P : gm_X → Prop} {X : gm_X} {x1 x2 x3 : Int32} (h : gm_K θ K mX7_closes) (k : gx_C (gm_O θ) mX7_parent [.ref (gm_am θ), .int x1, .int x2] X (gm_Pi (fun r3 X3 => gm_G θ K mX7_closes (gm_Pv P) 8 [(0, .ref (gm_am θ)), (1, .int x1), (3, .int x3), (4, .int r3)] [] X3))) : gm_G θ K mX7_closes (gm_Pv P) 0 [(0, .ref (gm_am θ)), (1, .int x1), (2, .int x2), (3, .int x3)] [] X := by
  refine gx_aload_n h 0 rfl dX7_closes_0 ?_
  refine gx_iload_n h 1 rfl dX7_closes_1 ?_
  refine gx_iload_n h 2 rfl dX7_closes_2 ?_
  refine gm_c_parent h rfl ⟨Nat.le_of_ble_eq_true rfl, Nat.le_of_ble_eq_true rfl⟩ (Nat.le_of_ble_eq_true rfl) dX7_closes_3 (gx_C.mono k ?_)
  rintro _ X3 ⟨r3, rfl, k⟩
  refine ⟨r3, rfl, ?_⟩
  refine gx_istore (L' := [(4, .int r3), (0, .ref (gm_am θ)), (1, .int x1), (2, .int x2), (3, .int x3)]) h (by decide) rfl dX7_closes_6 ?_
  exact gx_sub [1, 2, 4, 0] rfl k
theorem bm_closes_8 {θ : gm_T} {K : gx_K} {P : gm_X → Prop} {X : gm_X} {x1 x3 x4 : Int32} (h : gm_K θ K mX7_closes) (k : ((x4 < 0 → gm_G θ K mX7_closes (gm_Pv P) 74 [] [] X) ∧ (¬ x4 < 0 → gx_C (gm_O θ) mX7_deep [.ref (gm_am θ), .int x1, .int x4] X (gm_Pi (fun r17 X17 => ((r17 < x3 → gm_G θ K mX7_closes (gm_Pv P) 74 [] [] X17) ∧ (¬ r17 < x3 → gx_C (gm_O θ) mX7_of [.ref (gm_am θ), .int x1, .int x4, .int 1] X17 (gm_Pi (fun r29 X29 => ((r29 = 1 → gx_C (gm_O θ) mX7_writes [.ref (gm_am θ), .int 125] X29 (gm_Pv (fun X59 => gx_C (gm_O θ) mX7_parent [.ref (gm_am θ), .int x1, .int x4] X59 (gm_Pi (fun r66 X66 => gm_G θ K mX7_closes (gm_Pv P) 8 [(0, .ref (gm_am θ)), (1, .int x1), (3, .int x3), (4, .int r66)] [] X66))))) ∧ (¬ r29 = 1 → ((r29 = 2 → gx_C (gm_O θ) mX7_writes [.ref (gm_am θ), .int 62] X29 (gm_Pv (fun X59 => gx_C (gm_O θ) mX7_parent [.ref (gm_am θ), .int x1, .int x4] X59 (gm_Pi (fun r66 X66 => gm_G θ K mX7_closes (gm_Pv P) 8 [(0, .ref (gm_am θ)), (1, .int x1), (3, .int x3), (4, .int r66)] [] X66))))) ∧ (¬ r29 = 2 → gx_C (gm_O θ) mX7_writes [.ref (gm_am θ), .int 41] X29 (gm_Pv (fun X59 => gx_C (gm_O θ) mX7_parent [.ref (gm_am θ), .int x1, .int x4] X59 (gm_Pi (fun r66 X66 => gm_G θ K mX7_closes (gm_Pv P) 8 [(0, .ref (gm_am θ)), (1, .int x1), (3, .int x3), (4, .int r66)] [] X66))))))))))))))))) : gm_G θ K mX7_closes (gm_Pv P) 8 [(0, .ref (gm_am θ)), (1, .int x1), (3, .int x3), (4, .int x4)] [] X := by
  refine gx_iload h 3 rfl dX7_closes_8 ?_
  refine gx_if_lt (tgt := 74) h (by decide) dX7_closes_10 (fun c => ?_) (fun c => ?_)
  · replace k := k.1 c
    exact gx_sub [] rfl k
  · replace k := k.2 c
    refine gx_aload_n h 0 rfl dX7_closes_13 ?_
    refine gx_iload_n h 1 rfl dX7_closes_14 ?_
    refine gx_iload h 3 rfl dX7_closes_15 ?_
    refine gm_c_deep h rfl ⟨Nat.le_of_ble_eq_true rfl, Nat.le_of_ble_eq_true rfl⟩ (Nat.le_of_ble_eq_true rfl) dX7_closes_17 (gx_C.mono k ?_)
    rintro _ X17 ⟨r17, rfl, k⟩
    refine ⟨r17, rfl, ?_⟩
    refine gx_iload_n h 2 rfl dX7_closes_20 ?_
    refine gx_icmp_lt (tgt := 74) h (by decide) dX7_closes_21 (fun c => ?_) (fun c => ?_)
    · replace k := k.1 c
      exact gx_sub [] rfl k
    · replace k := k.2 c
      refine gx_aload_n h 0 rfl dX7_closes_24 ?_
      refine gx_iload_n h 1 rfl dX7_closes_25 ?_
      refine gx_iload h 3 rfl dX7_closes_26 ?_
      refine gx_iconst (v := 1) h dX7_closes_28 (by decide) ?_
      refine gm_c_of h rfl ⟨Nat.le_of_ble_eq_true rfl, Nat.le_of_ble_eq_true rfl⟩ (Nat.le_of_ble_eq_true rfl) dX7_closes_29 (gx_C.mono k ?_)
      rintro _ X29 ⟨r29, rfl, k⟩
      refine ⟨r29, rfl, ?_⟩
      refine gx_istore (L' := [(5, .int r29), (0, .ref (gm_am θ)), (1, .int x1), (3, .int x3), (4, .int x4)]) h (by decide) rfl dX7_closes_32 ?_
      refine gx_aload_n h 1 rfl dX7_closes_34 ?_
      refine gx_iload h 0 rfl dX7_closes_35 ?_
      refine gx_iconst (v := 1) h dX7_closes_37 (by decide) ?_
      refine gx_icmp_ne (tgt := 46) h (by decide) dX7_closes_38 (fun c => ?_) (fun c => ?_)
      · replace k := k.2 c
        refine gx_iload h 0 rfl dX7_closes_46 ?_
        refine gx_iconst (v := 2) h dX7_closes_48 (by decide) ?_
        refine gx_icmp_ne (tgt := 57) h (by decide) dX7_closes_49 (fun c => ?_) (fun c => ?_)
        · replace k := k.2 c
          refine gx_bipush (v := 41) h dX7_closes_57 (by decide) ?_
          refine gm_c_writes h rfl ⟨Nat.le_of_ble_eq_true rfl, Nat.le_of_ble_eq_true rfl⟩ (Nat.le_of_ble_eq_true rfl) dX7_closes_59 (gx_C.mono k ?_)
          rintro _ X59 ⟨rfl, k⟩
          refine ⟨rfl, ?_⟩
          refine gx_aload_n h 1 rfl dX7_closes_62 ?_
          refine gx_iload_n h 2 rfl dX7_closes_63 ?_
          refine gx_iload h 4 rfl dX7_closes_64 ?_
          refine gm_c_parent h rfl ⟨Nat.le_of_ble_eq_true rfl, Nat.le_of_ble_eq_true rfl⟩ (Nat.le_of_ble_eq_true rfl) dX7_closes_66 (gx_C.mono k ?_)
          rintro _ X66 ⟨r66, rfl, k⟩
          refine ⟨r66, rfl, ?_⟩
          refine gx_istore (L' := [(4, .int r66), (5, .int r29), (0, .ref (gm_am θ)), (1, .int x1), (3, .int x3)]) h (by decide) rfl dX7_closes_69 ?_
          refine gx_goto (tgt := 8) h (by decide) dX7_closes_71 ?_
          exact gx_sub [2, 3, 4, 0] rfl k
        · replace k := k.1 c
          refine gx_bipush (v := 62) h dX7_closes_52 (by decide) ?_
          refine gx_goto (tgt := 59) h (by decide) dX7_closes_54 ?_
          refine gm_c_writes h rfl ⟨Nat.le_of_ble_eq_true rfl, Nat.le_of_ble_eq_true rfl⟩ (Nat.le_of_ble_eq_true rfl) dX7_closes_59 (gx_C.mono k ?_)
          rintro _ X59 ⟨rfl, k⟩
          refine ⟨rfl, ?_⟩
          refine gx_aload_n h 1 rfl dX7_closes_62 ?_
          refine gx_iload_n h 2 rfl dX7_closes_63 ?_
          refine gx_iload h 4 rfl dX7_closes_64 ?_
          refine gm_c_parent h rfl ⟨Nat.le_of_ble_eq_true rfl, Nat.le_of_ble_eq_true rfl⟩ (Nat.le_of_ble_eq_true rfl) dX7_closes_66 (gx_C.mono k ?_)
          rintro _ X66 ⟨r66, rfl, k⟩
          refine ⟨r66, rfl, ?_⟩
          refine gx_istore (L' := [(4, .int r66), (5, .int r29), (0, .ref (gm_am θ)), (1, .int x1), (3, .int x3)]) h (by decide) rfl dX7_closes_69 ?_
          refine gx_goto (tgt := 8) h (by decide) dX7_closes_71 ?_
          exact gx_sub [2, 3, 4, 0] rfl k
      · replace k := k.1 c
        refine gx_bipush (v := 125) h dX7_closes_41 (by decide) ?_
        refine gx_goto (tgt := 59) h (by decide) dX7_closes_43 ?_
        refine gm_c_writes h rfl ⟨Nat.le_of_ble_eq_true rfl, Nat.le_of_ble_eq_true rfl⟩ (Nat.le_of_ble_eq_true rfl) dX7_closes_59 (gx_C.mono k ?_)
        rintro _ X59 ⟨rfl, k⟩
        refine ⟨rfl, ?_⟩
        refine gx_aload_n h 1 rfl dX7_closes_62 ?_
        refine gx_iload_n h 2 rfl dX7_closes_63 ?_
        refine gx_iload h 4 rfl dX7_closes_64 ?_
        refine gm_c_parent h rfl ⟨Nat.le_of_ble_eq_true rfl, Nat.le_of_ble_eq_true rfl⟩ (Nat.le_of_ble_eq_true rfl) dX7_closes_66 (gx_C.mono k ?_)
        rintro _ X66 ⟨r66, rfl, k⟩
        refine ⟨r66, rfl, ?_⟩
        refine gx_istore (L' := [(4, .int r66), (5, .int r29), (0, .ref (gm_am θ)), (1, .int x1), (3, .int x3)]) h (by decide) rfl dX7_closes_69 ?_
        refine gx_goto (tgt := 8) h (by decide) dX7_closes_71 ?_
        exact gx_sub [2, 3, 4, 0] rfl k
theorem bm_closes_74 {θ : gm_T} {K : gx_K} {P : gm_X → Prop} {X : gm_X} (h : gm_K θ K mX7_closes) (k : P X) : gm_G θ K mX7_closes (gm_Pv P) 74 [] [] X := by
  exact gx_vret h rfl dX7_closes_74 ⟨rfl, k⟩
/-! parent -/
theorem em_parent {θ : gm_T} {P : Int32 → gm_X → Prop} {X : gm_X} {x1 : Int32} {x2 : Int32} (body : ∀ K, gm_K θ K mX7_parent → gm_G θ K mX7_parent (gm_Pi P) 0 [(0, .ref (gm_am θ)), (1, .int x1), (2, .int x2)] [] X) : gx_C (gm_O θ) mX7_parent [.ref (gm_am θ), .int x1, .int x2] X (gm_Pi P) :=
  gx_C.intro (gm_z θ) (by decide) (Nat.le_of_ble_eq_true rfl) body
theorem bm_parent_0 {θ : gm_T} {K : gx_K} {P : Int32 → gm_X → Prop} {X : gm_X} {x1 x2 : Int32} (h : gm_K θ K mX7_parent) (k : gm_G θ K mX7_parent (gm_Pi P) 4 [(0, .ref (gm_am θ)), (1, .int x1), (2, .int x2), (3, .int (x2 - 1))] [] X) : gm_G θ K mX7_parent (gm_Pi P) 0 [(0, .ref (gm_am θ)), (1, .int x1), (2, .int x2)] [] X := by
  refine gx_iload_n h 2 rfl dX7_parent_0 ?_
  refine gx_iconst (v := 1) h dX7_parent_1 (by decide) ?_
  refine gx_isub h dX7_parent_2 ?_
  refine gx_istore_n (L' := [(3, .int (x2 - 1)), (0, .ref (gm_am θ)), (1, .int x1), (2, .int x2)]) h (by decide) rfl dX7_parent_3 ?_
  exact gx_sub [1, 2, 3, 0] rfl k
theorem bm_parent_4 {θ : gm_T} {K : gx_K} {P : Int32 → gm_X → Prop} {X : gm_X} {x1 x2 x3 : Int32} (h : gm_K θ K mX7_parent) (k : ((x3 < 0 → gm_G θ K mX7_parent (gm_Pi P) 29 [(3, .int x3)] [] X) ∧ (¬ x3 < 0 → gx_C (gm_O θ) mX7_deep [.ref (gm_am θ), .int x1, .int x3] X (gm_Pi (fun r11 X11 => gx_C (gm_O θ) mX7_deep [.ref (gm_am θ), .int x1, .int x2] X11 (gm_Pi (fun r17 X17 => ((r11 < r17 → gm_G θ K mX7_parent (gm_Pi P) 29 [(3, .int x3)] [] X17) ∧ (¬ r11 < r17 → gm_G θ K mX7_parent (gm_Pi P) 4 [(0, .ref (gm_am θ)), (1, .int x1), (2, .int x2), (3, .int (x3 + (-1)))] [] X17))))))))) : gm_G θ K mX7_parent (gm_Pi P) 4 [(0, .ref (gm_am θ)), (1, .int x1), (2, .int x2), (3, .int x3)] [] X := by
  refine gx_iload_n h 3 rfl dX7_parent_4 ?_
  refine gx_if_lt (tgt := 29) h (by decide) dX7_parent_5 (fun c => ?_) (fun c => ?_)
  · replace k := k.1 c
    exact gx_sub [3] rfl k
  · replace k := k.2 c
    refine gx_aload_n h 0 rfl dX7_parent_8 ?_
    refine gx_iload_n h 1 rfl dX7_parent_9 ?_
    refine gx_iload_n h 3 rfl dX7_parent_10 ?_
    refine gm_c_deep h rfl ⟨Nat.le_of_ble_eq_true rfl, Nat.le_of_ble_eq_true rfl⟩ (Nat.le_of_ble_eq_true rfl) dX7_parent_11 (gx_C.mono k ?_)
    rintro _ X11 ⟨r11, rfl, k⟩
    refine ⟨r11, rfl, ?_⟩
    refine gx_aload_n h 0 rfl dX7_parent_14 ?_
    refine gx_iload_n h 1 rfl dX7_parent_15 ?_
    refine gx_iload_n h 2 rfl dX7_parent_16 ?_
    refine gm_c_deep h rfl ⟨Nat.le_of_ble_eq_true rfl, Nat.le_of_ble_eq_true rfl⟩ (Nat.le_of_ble_eq_true rfl) dX7_parent_17 (gx_C.mono k ?_)
    rintro _ X17 ⟨r17, rfl, k⟩
    refine ⟨r17, rfl, ?_⟩
    refine gx_icmp_lt (tgt := 29) h (by decide) dX7_parent_20 (fun c => ?_) (fun c => ?_)
    · replace k := k.1 c
      exact gx_sub [3] rfl k
    · replace k := k.2 c
      refine gx_iinc (v := x3 + (-1)) (L' := [(3, .int (x3 + (-1))), (0, .ref (gm_am θ)), (1, .int x1), (2, .int x2)]) h 3 rfl (congrArg (fun q => x3 + q) (by decide)) (by decide) rfl dX7_parent_23 ?_
      refine gx_goto (tgt := 4) h (by decide) dX7_parent_26 ?_
      exact gx_sub [1, 2, 3, 0] rfl k
theorem bm_parent_29 {θ : gm_T} {K : gx_K} {P : Int32 → gm_X → Prop} {X : gm_X} {x3 : Int32} (h : gm_K θ K mX7_parent) (k : P x3 X) : gm_G θ K mX7_parent (gm_Pi P) 29 [(3, .int x3)] [] X := by
  refine gx_iload_n h 0 rfl dX7_parent_29 ?_
  exact gx_iret h rfl dX7_parent_30 ⟨_, rfl, k⟩
/-! writes -/
theorem em_writes {θ : gm_T} {P : gm_X → Prop} {X : gm_X} {x1 : Int32} (body : ∀ K, gm_K θ K mX7_writes → gm_G θ K mX7_writes (gm_Pv P) 0 [(0, .ref (gm_am θ)), (1, .int x1)] [] X) : gx_C (gm_O θ) mX7_writes [.ref (gm_am θ), .int x1] X (gm_Pv P) :=
  gx_C.intro (gm_z θ) (by decide) (Nat.le_of_ble_eq_true rfl) body
theorem bm_writes_0 {θ : gm_T} {K : gx_K} {P : gm_X → Prop} {X : gm_X} {x1 : Int32} (h : gm_K θ K mX7_writes) (k : vp_in (X.1 6) 2000 ∧ ∀ X9, X9 = gm_pA X 5 (X.1 6).toNatClampNeg x1 → ∀ X17, X17 = gm_pI X9 6 ((X9.1 6) + 1) → P X17) : gm_G θ K mX7_writes (gm_Pv P) 0 [(0, .ref (gm_am θ)), (1, .int x1)] [] X := by
  refine gx_aload_n h 0 rfl dX7_writes_0 ?_
  refine gm_get5 h rfl dX7_writes_1 ?_
  refine gx_aload_n h 0 rfl dX7_writes_4 ?_
  refine gm_get6 h rfl dX7_writes_5 ?_
  refine gx_iload_n h 1 rfl dX7_writes_8 ?_
  refine gm_st5 h k.1 dX7_writes_9 ?_
  generalize hz : gm_pA X 5 (X.1 6).toNatClampNeg x1 = X9
  replace k := k.2 X9 hz.symm
  refine gx_aload_n h 0 rfl dX7_writes_10 ?_
  refine gx_dup h rfl dX7_writes_11 ?_
  refine gm_get6 h rfl dX7_writes_12 ?_
  refine gx_iconst (v := 1) h dX7_writes_15 (by decide) ?_
  refine gx_iadd h dX7_writes_16 ?_
  refine gm_put6 h rfl dX7_writes_17 ?_
  generalize hz : gm_pI X9 6 ((X9.1 6) + 1) = X17
  replace k := k X17 hz.symm
  exact gx_vret h rfl dX7_writes_20 ⟨rfl, k⟩
/-! letter -/
theorem em_letter {θ : gm_T} {P : Int32 → gm_X → Prop} {X : gm_X} {x1 : Int32} (body : ∀ K, gm_K θ K mX7_letter → gm_G θ K mX7_letter (gm_Pi P) 0 [(0, .ref (gm_am θ)), (1, .int x1)] [] X) : gx_C (gm_O θ) mX7_letter [.ref (gm_am θ), .int x1] X (gm_Pi P) :=
  gx_C.intro (gm_z θ) (by decide) (Nat.le_of_ble_eq_true rfl) body
theorem bm_letter_0 {θ : gm_T} {K : gx_K} {P : Int32 → gm_X → Prop} {X : gm_X} {x1 : Int32} (h : gm_K θ K mX7_letter) (k : gx_C (gm_O θ) mX7_in [.int x1, .int 0, .int ((X.1 6) - 1)] X (gm_Pi (fun r8 X8 => ((r8 = 0 → P (-1) X8) ∧ (¬ r8 = 0 → vp_in x1 2000 ∧ P (X8.2 5 x1.toNatClampNeg) X8))))) : gm_G θ K mX7_letter (gm_Pi P) 0 [(0, .ref (gm_am θ)), (1, .int x1)] [] X := by
  refine gx_iload_n h 1 rfl dX7_letter_0 ?_
  refine gx_iconst (v := 0) h dX7_letter_1 (by decide) ?_
  refine gx_aload_n h 0 rfl dX7_letter_2 ?_
  refine gm_get6 h rfl dX7_letter_3 ?_
  refine gx_iconst (v := 1) h dX7_letter_6 (by decide) ?_
  refine gx_isub h dX7_letter_7 ?_
  refine gm_c_in h rfl ⟨Nat.le_of_ble_eq_true rfl, Nat.le_of_ble_eq_true rfl⟩ (Nat.le_of_ble_eq_true rfl) dX7_letter_8 (gx_C.mono k ?_)
  rintro _ X8 ⟨r8, rfl, k⟩
  refine ⟨r8, rfl, ?_⟩
  refine gx_if_eq (tgt := 23) h (by decide) dX7_letter_11 (fun c => ?_) (fun c => ?_)
  · replace k := k.1 c
    refine gx_iconst (v := (-1)) h dX7_letter_23 (by decide) ?_
    exact gx_iret h rfl dX7_letter_24 ⟨_, rfl, k⟩
  · replace k := k.2 c
    refine gx_aload_n h 0 rfl dX7_letter_14 ?_
    refine gm_get5 h rfl dX7_letter_15 ?_
    refine gx_iload_n h 1 rfl dX7_letter_18 ?_
    refine gm_ld5 h k.1 dX7_letter_19 ?_
    replace k := k.2
    refine gx_goto (tgt := 24) h (by decide) dX7_letter_20 ?_
    exact gx_iret h rfl dX7_letter_24 ⟨_, rfl, k⟩
