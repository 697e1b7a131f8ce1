set_option maxRecDepth 100000
/-! isField -/
theorem em_isField {θ : gm_T} {P : Int32 → gm_X → Prop} {X : gm_X} {x1 : Int32} {x2 : Int32} {x3 : Int32} {x4 : Int32} {x5 : Int32} (body : ∀ K, gm_K θ K mX7_isField → gm_G θ K mX7_isField (gm_Pi P) 0 [(0, .ref (gm_am θ)), (1, .int x1), (2, .int x2), (3, .int x3), (4, .int x4), (5, .int x5)] [] X) : gx_C (gm_O θ) mX7_isField [.ref (gm_am θ), .int x1, .int x2, .int x3, .int x4, .int x5] X (gm_Pi P) :=
  gx_C.intro (gm_z θ) (by decide) (Nat.le_of_ble_eq_true rfl) body
theorem bm_isField_0 {θ : gm_T} {K : gx_K} {P : Int32 → gm_X → Prop} {X : gm_X} {x1 x2 x3 x4 x5 : Int32} (h : gm_K θ K mX7_isField) (k : ((x5 = 0 → gx_C (gm_O θ) mX7_of [.ref (gm_am θ), .int x1, .int x2, .int 1] X (gm_Pi (fun r9 X9 => gx_C (gm_O θ) mX7_of [.ref (gm_am θ), .int x3, .int x4, .int 1] X9 (gm_Pi (fun r17 X17 => ((r9 = r17 → P 1 X17) ∧ (¬ r9 = r17 → P 0 X17))))))) ∧ (¬ x5 = 0 → ((3 ≤ x5 → gx_C (gm_O θ) mX7_children [.ref (gm_am θ), .int x1, .int x2] X (gm_Pi (fun r60 X60 => gx_C (gm_O θ) mX7_children [.ref (gm_am θ), .int x3, .int x4] X60 (gm_Pi (fun r67 X67 => ((r60 = r67 → gm_G θ K mX7_isField (gm_Pi P) 86 [(0, .ref (gm_am θ)), (1, .int x1), (2, .int x2), (3, .int x3), (6, .int (x4 + 1)), (7, .int (x2 + 1))] [] X67) ∧ (¬ r60 = r67 → P 0 X67))))))) ∧ (¬ 3 ≤ x5 → ((x5 = 1 → gx_C (gm_O θ) mX7_isLike [.ref (gm_am θ), .int x1, .int x2, .int x3, .int x4, .int 3] X (gm_Pi (fun r53 X53 => narrow .boolean (.int r53) = .int r53 ∧ P r53 X53))) ∧ (¬ x5 = 1 → gx_C (gm_O θ) mX7_isLike [.ref (gm_am θ), .int x1, .int x2, .int x3, .int x4, .int 10] X (gm_Pi (fun r53 X53 => narrow .boolean (.int r53) = .int r53 ∧ P r53 X53))))))))) : gm_G θ K mX7_isField (gm_Pi P) 0 [(0, .ref (gm_am θ)), (1, .int x1), (2, .int x2), (3, .int x3), (4, .int x4), (5, .int x5)] [] X := by
  refine gx_iload h 5 rfl dX7_isField_0 ?_
  refine gx_if_ne (tgt := 29) h (by decide) dX7_isField_2 (fun c => ?_) (fun c => ?_)
  · replace k := k.2 c
    refine gx_iload h 5 rfl dX7_isField_29 ?_
    refine gx_iconst (v := 3) h dX7_isField_31 (by decide) ?_
    refine gx_icmp_ge (tgt := 57) h (by decide) dX7_isField_32 (fun c => ?_) (fun c => ?_)
    · replace k := k.1 c
      refine gx_aload_n h 0 rfl dX7_isField_57 ?_
      refine gx_iload_n h 1 rfl dX7_isField_58 ?_
      refine gx_iload_n h 2 rfl dX7_isField_59 ?_
      refine gm_c_children h rfl ⟨Nat.le_of_ble_eq_true rfl, Nat.le_of_ble_eq_true rfl⟩ (Nat.le_of_ble_eq_true rfl) dX7_isField_60 (gx_C.mono k ?_)
      rintro _ X60 ⟨r60, rfl, k⟩
      refine ⟨r60, rfl, ?_⟩
      refine gx_aload_n h 0 rfl dX7_isField_63 ?_
      refine gx_iload_n h 3 rfl dX7_isField_64 ?_
      refine gx_iload h 4 rfl dX7_isField_65 ?_
      refine gm_c_children h rfl ⟨Nat.le_of_ble_eq_true rfl, Nat.le_of_ble_eq_true rfl⟩ (Nat.le_of_ble_eq_true rfl) dX7_isField_67 (gx_C.mono k ?_)
      rintro _ X67 ⟨r67, rfl, k⟩
      refine ⟨r67, rfl, ?_⟩
      refine gx_icmp_eq (tgt := 75) h (by decide) dX7_isField_70 (fun c => ?_) (fun c => ?_)
      · replace k := k.1 c
        refine gx_iload h 4 rfl dX7_isField_75 ?_
        refine gx_iconst (v := 1) h dX7_isField_77 (by decide) ?_
        refine gx_iadd h dX7_isField_78 ?_
        refine gx_istore (L' := [(6, .int (x4 + 1)), (0, .ref (gm_am θ)), (1, .int x1), (2, .int x2), (3, .int x3), (4, .int x4), (5, .int x5)]) h (by decide) rfl dX7_isField_79 ?_
        refine gx_iload_n h 3 rfl dX7_isField_81 ?_
        refine gx_iconst (v := 1) h dX7_isField_82 (by decide) ?_
        refine gx_iadd h dX7_isField_83 ?_
        refine gx_istore (L' := [(7, .int (x2 + 1)), (6, .int (x4 + 1)), (0, .ref (gm_am θ)), (1, .int x1), (2, .int x2), (3, .int x3), (4, .int x4), (5, .int x5)]) h (by decide) rfl dX7_isField_84 ?_
        exact gx_sub [2, 3, 4, 5, 1, 0] rfl k
      · replace k := k.2 c
        refine gx_iconst (v := 0) h dX7_isField_73 (by decide) ?_
        exact gx_zret h rfl rfl dX7_isField_74 ⟨_, rfl, k⟩
    · replace k := k.2 c
      refine gx_aload_n h 0 rfl dX7_isField_35 ?_
      refine gx_iload_n h 1 rfl dX7_isField_36 ?_
      refine gx_iload_n h 2 rfl dX7_isField_37 ?_
      refine gx_iload_n h 3 rfl dX7_isField_38 ?_
      refine gx_iload h 4 rfl dX7_isField_39 ?_
      refine gx_iload h 5 rfl dX7_isField_41 ?_
      refine gx_iconst (v := 1) h dX7_isField_43 (by decide) ?_
      refine gx_icmp_ne (tgt := 51) h (by decide) dX7_isField_44 (fun c => ?_) (fun c => ?_)
      · replace k := k.2 c
        refine gx_bipush (v := 10) h dX7_isField_51 (by decide) ?_
        refine gm_c_isLike h rfl ⟨Nat.le_of_ble_eq_true rfl, Nat.le_of_ble_eq_true rfl⟩ (Nat.le_of_ble_eq_true rfl) dX7_isField_53 (gx_C.mono k ?_)
        rintro _ X53 ⟨r53, rfl, k⟩
        refine ⟨r53, rfl, ?_⟩
        exact gx_zret h rfl k.1 dX7_isField_56 ⟨_, rfl, k.2⟩
      · replace k := k.1 c
        refine gx_iconst (v := 3) h dX7_isField_47 (by decide) ?_
        refine gx_goto (tgt := 53) h (by decide) dX7_isField_48 ?_
        refine gm_c_isLike h rfl ⟨Nat.le_of_ble_eq_true rfl, Nat.le_of_ble_eq_true rfl⟩ (Nat.le_of_ble_eq_true rfl) dX7_isField_53 (gx_C.mono k ?_)
        rintro _ X53 ⟨r53, rfl, k⟩
        refine ⟨r53, rfl, ?_⟩
        exact gx_zret h rfl k.1 dX7_isField_56 ⟨_, rfl, k.2⟩
  · replace k := k.1 c
    refine gx_aload_n h 0 rfl dX7_isField_5 ?_
    refine gx_iload_n h 1 rfl dX7_isField_6 ?_
    refine gx_iload_n h 2 rfl dX7_isField_7 ?_
    refine gx_iconst (v := 1) h dX7_isField_8 (by decide) ?_
    refine gm_c_of h rfl ⟨Nat.le_of_ble_eq_true rfl, Nat.le_of_ble_eq_true rfl⟩ (Nat.le_of_ble_eq_true rfl) dX7_isField_9 (gx_C.mono k ?_)
    rintro _ X9 ⟨r9, rfl, k⟩
    refine ⟨r9, rfl, ?_⟩
    refine gx_aload_n h 0 rfl dX7_isField_12 ?_
    refine gx_iload_n h 3 rfl dX7_isField_13 ?_
    refine gx_iload h 4 rfl dX7_isField_14 ?_
    refine gx_iconst (v := 1) h dX7_isField_16 (by decide) ?_
    refine gm_c_of h rfl ⟨Nat.le_of_ble_eq_true rfl, Nat.le_of_ble_eq_true rfl⟩ (Nat.le_of_ble_eq_true rfl) dX7_isField_17 (gx_C.mono k ?_)
    rintro _ X17 ⟨r17, rfl, k⟩
    refine ⟨r17, rfl, ?_⟩
    refine gx_icmp_ne (tgt := 27) h (by decide) dX7_isField_20 (fun c => ?_) (fun c => ?_)
    · replace k := k.2 c
      refine gx_iconst (v := 0) h dX7_isField_27 (by decide) ?_
      exact gx_zret h rfl rfl dX7_isField_28 ⟨_, rfl, k⟩
    · replace k := k.1 c
      refine gx_iconst (v := 1) h dX7_isField_23 (by decide) ?_
      refine gx_goto (tgt := 28) h (by decide) dX7_isField_24 ?_
      exact gx_zret h rfl rfl dX7_isField_28 ⟨_, rfl, k⟩
theorem bm_isField_86 {θ : gm_T} {K : gx_K} {P : Int32 → gm_X → Prop} {X : gm_X} {x1 x2 x3 x6 x7 : Int32} (h : gm_K θ K mX7_isField) (k : gx_C (gm_O θ) mX7_end [.ref (gm_am θ), .int x1, .int x2] X (gm_Pi (fun r91 X91 => ((r91 ≤ x7 → P 1 X91) ∧ (¬ r91 ≤ x7 → gx_C (gm_O θ) mX7_of [.ref (gm_am θ), .int x1, .int x7, .int 0] X91 (gm_Pi (fun r102 X102 => gx_C (gm_O θ) mX7_of [.ref (gm_am θ), .int x3, .int x6, .int 0] X102 (gm_Pi (fun r110 X110 => ((r102 = r110 → gx_C (gm_O θ) mX7_end [.ref (gm_am θ), .int x3, .int x6] X110 (gm_Pi (fun r122 X122 => gx_C (gm_O θ) mX7_end [.ref (gm_am θ), .int x1, .int x7] X122 (gm_Pi (fun r131 X131 => gm_G θ K mX7_isField (gm_Pi P) 86 [(0, .ref (gm_am θ)), (1, .int x1), (2, .int x2), (3, .int x3), (6, .int r122), (7, .int r131)] [] X131))))) ∧ (¬ r102 = r110 → P 0 X110))))))))))) : gm_G θ K mX7_isField (gm_Pi P) 86 [(0, .ref (gm_am θ)), (1, .int x1), (2, .int x2), (3, .int x3), (6, .int x6), (7, .int x7)] [] X := by
  refine gx_iload h 5 rfl dX7_isField_86 ?_
  refine gx_aload_n h 0 rfl dX7_isField_88 ?_
  refine gx_iload_n h 1 rfl dX7_isField_89 ?_
  refine gx_iload_n h 2 rfl dX7_isField_90 ?_
  refine gm_c_end h rfl ⟨Nat.le_of_ble_eq_true rfl, Nat.le_of_ble_eq_true rfl⟩ (Nat.le_of_ble_eq_true rfl) dX7_isField_91 (gx_C.mono k ?_)
  rintro _ X91 ⟨r91, rfl, k⟩
  refine ⟨r91, rfl, ?_⟩
  refine gx_icmp_ge (tgt := 139) h (by decide) dX7_isField_94 (fun c => ?_) (fun c => ?_)
  · replace k := k.1 c
    refine gx_iconst (v := 1) h dX7_isField_139 (by decide) ?_
    exact gx_zret h rfl rfl dX7_isField_140 ⟨_, rfl, k⟩
  · replace k := k.2 c
    refine gx_aload_n h 0 rfl dX7_isField_97 ?_
    refine gx_iload_n h 1 rfl dX7_isField_98 ?_
    refine gx_iload h 5 rfl dX7_isField_99 ?_
    refine gx_iconst (v := 0) h dX7_isField_101 (by decide) ?_
    refine gm_c_of h rfl ⟨Nat.le_of_ble_eq_true rfl, Nat.le_of_ble_eq_true rfl⟩ (Nat.le_of_ble_eq_true rfl) dX7_isField_102 (gx_C.mono k ?_)
    rintro _ X102 ⟨r102, rfl, k⟩
    refine ⟨r102, rfl, ?_⟩
    refine gx_aload_n h 0 rfl dX7_isField_105 ?_
    refine gx_iload_n h 3 rfl dX7_isField_106 ?_
    refine gx_iload h 4 rfl dX7_isField_107 ?_
    refine gx_iconst (v := 0) h dX7_isField_109 (by decide) ?_
    refine gm_c_of h rfl ⟨Nat.le_of_ble_eq_true rfl, Nat.le_of_ble_eq_true rfl⟩ (Nat.le_of_ble_eq_true rfl) dX7_isField_110 (gx_C.mono k ?_)
    rintro _ X110 ⟨r110, rfl, k⟩
    refine ⟨r110, rfl, ?_⟩
    refine gx_icmp_eq (tgt := 118) h (by decide) dX7_isField_113 (fun c => ?_) (fun c => ?_)
    · replace k := k.1 c
      refine gx_aload_n h 0 rfl dX7_isField_118 ?_
      refine gx_iload_n h 3 rfl dX7_isField_119 ?_
      refine gx_iload h 4 rfl dX7_isField_120 ?_
      refine gm_c_end h rfl ⟨Nat.le_of_ble_eq_true rfl, Nat.le_of_ble_eq_true rfl⟩ (Nat.le_of_ble_eq_true rfl) dX7_isField_122 (gx_C.mono k ?_)
      rintro _ X122 ⟨r122, rfl, k⟩
      refine ⟨r122, rfl, ?_⟩
      refine gx_istore (L' := [(6, .int r122), (0, .ref (gm_am θ)), (1, .int x1), (2, .int x2), (3, .int x3), (7, .int x7)]) h (by decide) rfl dX7_isField_125 ?_
      refine gx_aload_n h 1 rfl dX7_isField_127 ?_
      refine gx_iload_n h 2 rfl dX7_isField_128 ?_
      refine gx_iload h 5 rfl dX7_isField_129 ?_
      refine gm_c_end h rfl ⟨Nat.le_of_ble_eq_true rfl, Nat.le_of_ble_eq_true rfl⟩ (Nat.le_of_ble_eq_true rfl) dX7_isField_131 (gx_C.mono k ?_)
      rintro _ X131 ⟨r131, rfl, k⟩
      refine ⟨r131, rfl, ?_⟩
      refine gx_istore (L' := [(7, .int r131), (6, .int r122), (0, .ref (gm_am θ)), (1, .int x1), (2, .int x2), (3, .int x3)]) h (by decide) rfl dX7_isField_134 ?_
      refine gx_goto (tgt := 86) h (by decide) dX7_isField_136 ?_
      exact gx_sub [2, 3, 4, 5, 1, 0] rfl k
    · replace k := k.2 c
      refine gx_iconst (v := 0) h dX7_isField_116 (by decide) ?_
      exact gx_zret h rfl rfl dX7_isField_117 ⟨_, rfl, k⟩
/-! least -/
theorem em_least {θ : gm_T} {P : Int32 → gm_X → Prop} {X : gm_X} {x1 : Int32} {x2 : Int32} {x3 : Int32} (body : ∀ K, gm_K θ K mX7_least → gm_G θ K mX7_least (gm_Pi P) 0 [(0, .ref (gm_am θ)), (1, .int x1), (2, .int x2), (3, .int x3)] [] X) : gx_C (gm_O θ) mX7_least [.ref (gm_am θ), .int x1, .int x2, .int x3] X (gm_Pi P) :=
  gx_C.intro (gm_z θ) (by decide) (Nat.le_of_ble_eq_true rfl) body
theorem bm_least_0 {θ : gm_T} {K : gx_K} {P : Int32 → gm_X → Prop} {X : gm_X} {x1 x2 x3 : Int32} (h : gm_K θ K mX7_least) (k : gm_G θ K mX7_least (gm_Pi P) 6 [(0, .ref (gm_am θ)), (1, .int x1), (2, .int x2), (3, .int x3), (4, .int (-1)), (5, .int 0)] [] X) : gm_G θ K mX7_least (gm_Pi P) 0 [(0, .ref (gm_am θ)), (1, .int x1), (2, .int x2), (3, .int x3)] [] X := by
  refine gx_iconst (v := (-1)) h dX7_least_0 (by decide) ?_
  refine gx_istore (L' := [(4, .int (-1)), (0, .ref (gm_am θ)), (1, .int x1), (2, .int x2), (3, .int x3)]) h (by decide) rfl dX7_least_1 ?_
  refine gx_iconst (v := 0) h dX7_least_3 (by decide) ?_
  refine gx_istore (L' := [(5, .int 0), (4, .int (-1)), (0, .ref (gm_am θ)), (1, .int x1), (2, .int x2), (3, .int x3)]) h (by decide) rfl dX7_least_4 ?_
  exact gx_sub [2, 3, 4, 5, 1, 0] rfl k
theorem bm_least_6 {θ : gm_T} {K : gx_K} {P : Int32 → gm_X → Prop} {X : gm_X} {x1 x2 x3 x4 x5 : Int32} (h : gm_K θ K mX7_least) (k : vp_in x1 11 ∧ (((X.2 1 x1.toNatClampNeg) ≤ x5 → P x4 X) ∧ (¬ (X.2 1 x1.toNatClampNeg) ≤ x5 → gx_C (gm_O θ) mX7_of [.ref (gm_am θ), .int x1, .int x5, .int 0] X (gm_Pi (fun r22 X22 => ((r22 ≤ x3 → gm_G θ K mX7_least (gm_Pi P) 59 [(0, .ref (gm_am θ)), (1, .int x1), (2, .int x2), (3, .int x3), (4, .int x4), (5, .int x5)] [] X22) ∧ (¬ r22 ≤ x3 → gx_C (gm_O θ) mX7_named [.ref (gm_am θ), .int x2, .int r22] X22 (gm_Pi (fun r37 X37 => ((r37 < 0 → gm_G θ K mX7_least (gm_Pi P) 59 [(0, .ref (gm_am θ)), (1, .int x1), (2, .int x2), (3, .int x3), (4, .int x4), (5, .int x5)] [] X37) ∧ (¬ r37 < 0 → ((x4 < 0 → gm_G θ K mX7_least (gm_Pi P) 55 [(0, .ref (gm_am θ)), (1, .int x1), (2, .int x2), (3, .int x3), (5, .int x5), (6, .int r22)] [] X37) ∧ (¬ x4 < 0 → ((x4 ≤ r22 → gm_G θ K mX7_least (gm_Pi P) 59 [(0, .ref (gm_am θ)), (1, .int x1), (2, .int x2), (3, .int x3), (4, .int x4), (5, .int x5)] [] X37) ∧ (¬ x4 ≤ r22 → gm_G θ K mX7_least (gm_Pi P) 55 [(0, .ref (gm_am θ)), (1, .int x1), (2, .int x2), (3, .int x3), (5, .int x5), (6, .int r22)] [] X37))))))))))))))) : gm_G θ K mX7_least (gm_Pi P) 6 [(0, .ref (gm_am θ)), (1, .int x1), (2, .int x2), (3, .int x3), (4, .int x4), (5, .int x5)] [] X := by
  refine gx_iload h 5 rfl dX7_least_6 ?_
  refine gx_aload_n h 0 rfl dX7_least_8 ?_
  refine gm_get1 h rfl dX7_least_9 ?_
  refine gx_iload_n h 1 rfl dX7_least_12 ?_
  refine gm_ld1 h k.1 dX7_least_13 ?_
  replace k := k.2
  refine gx_icmp_ge (tgt := 65) h (by decide) dX7_least_14 (fun c => ?_) (fun c => ?_)
  · replace k := k.1 c
    refine gx_iload h 4 rfl dX7_least_65 ?_
    exact gx_iret h rfl dX7_least_67 ⟨_, rfl, k⟩
  · replace k := k.2 c
    refine gx_aload_n h 0 rfl dX7_least_17 ?_
    refine gx_iload_n h 1 rfl dX7_least_18 ?_
    refine gx_iload h 5 rfl dX7_least_19 ?_
    refine gx_iconst (v := 0) h dX7_least_21 (by decide) ?_
    refine gm_c_of h rfl ⟨Nat.le_of_ble_eq_true rfl, Nat.le_of_ble_eq_true rfl⟩ (Nat.le_of_ble_eq_true rfl) dX7_least_22 (gx_C.mono k ?_)
    rintro _ X22 ⟨r22, rfl, k⟩
    refine ⟨r22, rfl, ?_⟩
    refine gx_istore (L' := [(6, .int r22), (0, .ref (gm_am θ)), (1, .int x1), (2, .int x2), (3, .int x3), (4, .int x4), (5, .int x5)]) h (by decide) rfl dX7_least_25 ?_
    refine gx_iload h 0 rfl dX7_least_27 ?_
    refine gx_iload_n h 4 rfl dX7_least_29 ?_
    refine gx_icmp_le (tgt := 59) h (by decide) dX7_least_30 (fun c => ?_) (fun c => ?_)
    · replace k := k.1 c
      exact gx_sub [1, 2, 3, 4, 5, 6] rfl k
    · replace k := k.2 c
      refine gx_aload_n h 1 rfl dX7_least_33 ?_
      refine gx_iload_n h 3 rfl dX7_least_34 ?_
      refine gx_iload h 0 rfl dX7_least_35 ?_
      refine gm_c_named h rfl ⟨Nat.le_of_ble_eq_true rfl, Nat.le_of_ble_eq_true rfl⟩ (Nat.le_of_ble_eq_true rfl) dX7_least_37 (gx_C.mono k ?_)
      rintro _ X37 ⟨r37, rfl, k⟩
      refine ⟨r37, rfl, ?_⟩
      refine gx_if_lt (tgt := 59) h (by decide) dX7_least_40 (fun c => ?_) (fun c => ?_)
      · replace k := k.1 c
        exact gx_sub [1, 2, 3, 4, 5, 6] rfl k
      · replace k := k.2 c
        refine gx_iload h 5 rfl dX7_least_43 ?_
        refine gx_if_lt (tgt := 55) h (by decide) dX7_least_45 (fun c => ?_) (fun c => ?_)
        · replace k := k.1 c
          exact gx_sub [1, 2, 3, 4, 6, 0] rfl k
        · replace k := k.2 c
          refine gx_iload h 0 rfl dX7_least_48 ?_
          refine gx_iload h 5 rfl dX7_least_50 ?_
          refine gx_icmp_ge (tgt := 59) h (by decide) dX7_least_52 (fun c => ?_) (fun c => ?_)
          · replace k := k.1 c
            exact gx_sub [1, 2, 3, 4, 5, 6] rfl k
          · replace k := k.2 c
            exact gx_sub [1, 2, 3, 4, 6, 0] rfl k
theorem bm_least_55 {θ : gm_T} {K : gx_K} {P : Int32 → gm_X → Prop} {X : gm_X} {x1 x2 x3 x5 x6 : Int32} (h : gm_K θ K mX7_least) (k : gm_G θ K mX7_least (gm_Pi P) 59 [(0, .ref (gm_am θ)), (1, .int x1), (2, .int x2), (3, .int x3), (4, .int x6), (5, .int x5)] [] X) : gm_G θ K mX7_least (gm_Pi P) 55 [(0, .ref (gm_am θ)), (1, .int x1), (2, .int x2), (3, .int x3), (5, .int x5), (6, .int x6)] [] X := by
  refine gx_iload h 5 rfl dX7_least_55 ?_
  refine gx_istore (L' := [(4, .int x6), (0, .ref (gm_am θ)), (1, .int x1), (2, .int x2), (3, .int x3), (5, .int x5), (6, .int x6)]) h (by decide) rfl dX7_least_57 ?_
  exact gx_sub [1, 2, 3, 4, 0, 5] rfl k
theorem bm_least_59 {θ : gm_T} {K : gx_K} {P : Int32 → gm_X → Prop} {X : gm_X} {x1 x2 x3 x4 x5 : Int32} (h : gm_K θ K mX7_least) (k : gm_G θ K mX7_least (gm_Pi P) 6 [(0, .ref (gm_am θ)), (1, .int x1), (2, .int x2), (3, .int x3), (4, .int x4), (5, .int (x5 + 1))] [] X) : gm_G θ K mX7_least (gm_Pi P) 59 [(0, .ref (gm_am θ)), (1, .int x1), (2, .int x2), (3, .int x3), (4, .int x4), (5, .int x5)] [] X := by
  refine gx_iinc (v := x5 + 1) (L' := [(5, .int (x5 + 1)), (0, .ref (gm_am θ)), (1, .int x1), (2, .int x2), (3, .int x3), (4, .int x4)]) h 5 rfl rfl (by decide) rfl dX7_least_59 ?_
  refine gx_goto (tgt := 6) h (by decide) dX7_least_62 ?_
  exact gx_sub [1, 2, 3, 4, 5, 0] rfl k
/-! merged -/
theorem em_merged {θ : gm_T} {P : Int32 → gm_X → Prop} {X : gm_X}  (body : ∀ K, gm_K θ K mX7_merged → gm_G θ K mX7_merged (gm_Pi P) 0 [(0, .ref (gm_am θ))] [] X) : gx_C (gm_O θ) mX7_merged [.ref (gm_am θ)] X (gm_Pi P) :=
  gx_C.intro (gm_z θ) (by decide) (Nat.le_of_ble_eq_true rfl) body
theorem bm_merged_0 {θ : gm_T} {K : gx_K} {P : Int32 → gm_X → Prop} {X : gm_X} (h : gm_K θ K mX7_merged) (k : P (X.1 32) X) : gm_G θ K mX7_merged (gm_Pi P) 0 [(0, .ref (gm_am θ))] [] X := by
  refine gx_aload_n h 0 rfl dX7_merged_0 ?_
  refine gm_get32 h rfl dX7_merged_1 ?_
  exact gx_iret h rfl dX7_merged_4 ⟨_, rfl, k⟩
/-! clash -/
theorem em_clash {θ : gm_T} {P : Int32 → gm_X → Prop} {X : gm_X} {x1 : Int32} {x2 : Int32} (body : ∀ K, gm_K θ K mX7_clash → gm_G θ K mX7_clash (gm_Pi P) 0 [(0, .ref (gm_am θ)), (1, .int x1), (2, .int x2)] [] X) : gx_C (gm_O θ) mX7_clash [.ref (gm_am θ), .int x1, .int x2] X (gm_Pi P) :=
  gx_C.intro (gm_z θ) (by decide) (Nat.le_of_ble_eq_true rfl) body
theorem bm_clash_0 {θ : gm_T} {K : gx_K} {P : Int32 → gm_X → Prop} {X : gm_X} {x1 x2 : Int32} (h : gm_K θ K mX7_clash) (k : gx_C (gm_O θ) mX7_in [.int x1, .int 0, .int ((X.1 31) - 1)] X (gm_Pi (fun r8 X8 => ((r8 = 0 → gx_C (gm_O θ) mX7_found0 [.ref (gm_am θ), .int (-6)] X8 (gm_Pi (fun r17 X17 => P r17 X17))) ∧ (¬ r8 = 0 → ((x2 = 0 → vp_in x1 130 ∧ P (X8.2 29 x1.toNatClampNeg) X8) ∧ (¬ x2 = 0 → ((x2 = 1 → vp_in x1 130 ∧ P (X8.2 30 x1.toNatClampNeg) X8) ∧ (¬ x2 = 1 → gx_C (gm_O θ) mX7_found0 [.ref (gm_am θ), .int (-1)] X8 (gm_Pi (fun r50 X50 => P r50 X50))))))))))) : gm_G θ K mX7_clash (gm_Pi P) 0 [(0, .ref (gm_am θ)), (1, .int x1), (2, .int x2)] [] X := by
  refine gx_iload_n h 1 rfl dX7_clash_0 ?_
  refine gx_iconst (v := 0) h dX7_clash_1 (by decide) ?_
  refine gx_aload_n h 0 rfl dX7_clash_2 ?_
  refine gm_get31 h rfl dX7_clash_3 ?_
  refine gx_iconst (v := 1) h dX7_clash_6 (by decide) ?_
  refine gx_isub h dX7_clash_7 ?_
  refine gm_c_in h rfl ⟨Nat.le_of_ble_eq_true rfl, Nat.le_of_ble_eq_true rfl⟩ (Nat.le_of_ble_eq_true rfl) dX7_clash_8 (gx_C.mono k ?_)
  rintro _ X8 ⟨r8, rfl, k⟩
  refine ⟨r8, rfl, ?_⟩
  refine gx_if_ne (tgt := 21) h (by decide) dX7_clash_11 (fun c => ?_) (fun c => ?_)
  · replace k := k.2 c
    refine gx_iload_n h 2 rfl dX7_clash_21 ?_
    refine gx_if_ne (tgt := 34) h (by decide) dX7_clash_22 (fun c => ?_) (fun c => ?_)
    · replace k := k.2 c
      refine gx_iload_n h 2 rfl dX7_clash_34 ?_
      refine gx_iconst (v := 1) h dX7_clash_35 (by decide) ?_
      refine gx_icmp_ne (tgt := 48) h (by decide) dX7_clash_36 (fun c => ?_) (fun c => ?_)
      · replace k := k.2 c
        refine gx_aload_n h 0 rfl dX7_clash_48 ?_
        refine gx_iconst (v := (-1)) h dX7_clash_49 (by decide) ?_
        refine gm_c_found0 h rfl ⟨Nat.le_of_ble_eq_true rfl, Nat.le_of_ble_eq_true rfl⟩ (Nat.le_of_ble_eq_true rfl) dX7_clash_50 (gx_C.mono k ?_)
        rintro _ X50 ⟨r50, rfl, k⟩
        refine ⟨r50, rfl, ?_⟩
        exact gx_iret h rfl dX7_clash_53 ⟨_, rfl, k⟩
      · replace k := k.1 c
        refine gx_aload_n h 0 rfl dX7_clash_39 ?_
        refine gm_get30 h rfl dX7_clash_40 ?_
        refine gx_iload_n h 1 rfl dX7_clash_43 ?_
        refine gm_ld30 h k.1 dX7_clash_44 ?_
        replace k := k.2
        refine gx_goto (tgt := 53) h (by decide) dX7_clash_45 ?_
        exact gx_iret h rfl dX7_clash_53 ⟨_, rfl, k⟩
    · replace k := k.1 c
      refine gx_aload_n h 0 rfl dX7_clash_25 ?_
      refine gm_get29 h rfl dX7_clash_26 ?_
      refine gx_iload_n h 1 rfl dX7_clash_29 ?_
      refine gm_ld29 h k.1 dX7_clash_30 ?_
      replace k := k.2
      refine gx_goto (tgt := 53) h (by decide) dX7_clash_31 ?_
      exact gx_iret h rfl dX7_clash_53 ⟨_, rfl, k⟩
  · replace k := k.1 c
    refine gx_aload_n h 0 rfl dX7_clash_14 ?_
    refine gx_bipush (v := (-6)) h dX7_clash_15 (by decide) ?_
    refine gm_c_found0 h rfl ⟨Nat.le_of_ble_eq_true rfl, Nat.le_of_ble_eq_true rfl⟩ (Nat.le_of_ble_eq_true rfl) dX7_clash_17 (gx_C.mono k ?_)
    rintro _ X17 ⟨r17, rfl, k⟩
    refine ⟨r17, rfl, ?_⟩
    exact gx_iret h rfl dX7_clash_20 ⟨_, rfl, k⟩
/-! found -/
theorem em_found {θ : gm_T} {P : Int32 → gm_X → Prop} {X : gm_X} {x1 : Int32} (body : ∀ K, gm_K θ K mX7_found → gm_G θ K mX7_found (gm_Pi P) 0 [(0, .ref (gm_am θ)), (1, .int x1)] [] X) : gx_C (gm_O θ) mX7_found [.ref (gm_am θ), .int x1] X (gm_Pi P) :=
  gx_C.intro (gm_z θ) (by decide) (Nat.le_of_ble_eq_true rfl) body
theorem bm_found_0 {θ : gm_T} {K : gx_K} {P : Int32 → gm_X → Prop} {X : gm_X} {x1 : Int32} (h : gm_K θ K mX7_found) (k : gx_C (gm_O θ) mX7_in [.int x1, .int (-7), .int (-1)] X (gm_Pi (fun r4 X4 => ((r4 = 0 → ((x1 = (-9) → gm_G θ K mX7_found (gm_Pi P) 16 [(0, .ref (gm_am θ)), (1, .int x1)] [] X4) ∧ (¬ x1 = (-9) → gx_C (gm_O θ) mX7_found0 [.ref (gm_am θ), .int (-1)] X4 (gm_Pi (fun r28 X28 => P r28 X28))))) ∧ (¬ r4 = 0 → gm_G θ K mX7_found (gm_Pi P) 16 [(0, .ref (gm_am θ)), (1, .int x1)] [] X4))))) : gm_G θ K mX7_found (gm_Pi P) 0 [(0, .ref (gm_am θ)), (1, .int x1)] [] X := by
  refine gx_iload_n h 1 rfl dX7_found_0 ?_
  refine gx_bipush (v := (-7)) h dX7_found_1 (by decide) ?_
  refine gx_iconst (v := (-1)) h dX7_found_3 (by decide) ?_
  refine gm_c_in h rfl ⟨Nat.le_of_ble_eq_true rfl, Nat.le_of_ble_eq_true rfl⟩ (Nat.le_of_ble_eq_true rfl) dX7_found_4 (gx_C.mono k ?_)
  rintro _ X4 ⟨r4, rfl, k⟩
  refine ⟨r4, rfl, ?_⟩
  refine gx_if_ne (tgt := 16) h (by decide) dX7_found_7 (fun c => ?_) (fun c => ?_)
  · replace k := k.2 c
    exact k
  · replace k := k.1 c
    refine gx_iload_n h 1 rfl dX7_found_10 ?_
    refine gx_bipush (v := (-9)) h dX7_found_11 (by decide) ?_
    refine gx_icmp_ne (tgt := 26) h (by decide) dX7_found_13 (fun c => ?_) (fun c => ?_)
    · replace k := k.2 c
      refine gx_aload_n h 0 rfl dX7_found_26 ?_
      refine gx_iconst (v := (-1)) h dX7_found_27 (by decide) ?_
      refine gm_c_found0 h rfl ⟨Nat.le_of_ble_eq_true rfl, Nat.le_of_ble_eq_true rfl⟩ (Nat.le_of_ble_eq_true rfl) dX7_found_28 (gx_C.mono k ?_)
      rintro _ X28 ⟨r28, rfl, k⟩
      refine ⟨r28, rfl, ?_⟩
      exact gx_iret h rfl dX7_found_31 ⟨_, rfl, k⟩
    · replace k := k.1 c
      exact k
theorem bm_found_16 {θ : gm_T} {K : gx_K} {P : Int32 → gm_X → Prop} {X : gm_X} {x1 : Int32} (h : gm_K θ K mX7_found) (k : vp_in (-x1) 10 ∧ P (X.2 8 (-x1).toNatClampNeg) X) : gm_G θ K mX7_found (gm_Pi P) 16 [(0, .ref (gm_am θ)), (1, .int x1)] [] X := by
  refine gx_aload_n h 0 rfl dX7_found_16 ?_
  refine gm_get8 h rfl dX7_found_17 ?_
  refine gx_iload_n h 1 rfl dX7_found_20 ?_
  refine gx_ineg h dX7_found_21 ?_
  refine gm_ld8 h k.1 dX7_found_22 ?_
  replace k := k.2
  refine gx_goto (tgt := 31) h (by decide) dX7_found_23 ?_
  exact gx_iret h rfl dX7_found_31 ⟨_, rfl, k⟩
