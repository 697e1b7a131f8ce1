set_option maxRecDepth 100000
/-! copy -/
theorem em_copy {θ : gm_T} {P : Int32 → gm_X → Prop} {X : gm_X} {x1 : Int32} {x2 : Int32} (body : ∀ K, gm_K θ K mX7_copy → gm_G θ K mX7_copy (gm_Pi P) 0 [(0, .ref (gm_am θ)), (1, .int x1), (2, .int x2)] [] X) : gx_C (gm_O θ) mX7_copy [.ref (gm_am θ), .int x1, .int x2] X (gm_Pi P) :=
  gx_C.intro (gm_z θ) (by decide) (Nat.le_of_ble_eq_true rfl) body
theorem bm_copy_0 {θ : gm_T} {K : gx_K} {P : Int32 → gm_X → Prop} {X : gm_X} {x1 x2 : Int32} (h : gm_K θ K mX7_copy) (k : gx_C (gm_O θ) mX7_lacks [.ref (gm_am θ), .int x1] X (gm_Pi (fun r2 X2 => ((0 ≤ r2 → gx_C (gm_O θ) mX7_isPlace [.int x2] X2 (gm_Pi (fun r17 X17 => ((r17 = 0 → gx_C (gm_O θ) mX7_found0 [.ref (gm_am θ), .int (-1)] X17 (gm_Pi (fun r25 X25 => P r25 X25))) ∧ (¬ r17 = 0 → gx_C (gm_O θ) mX7_copyAll [.ref (gm_am θ), .int x1, .int x2] X17 (gm_Pv (fun X32 => vp_in x2 11 ∧ P (X32.2 1 x2.toNatClampNeg) X32))))))) ∧ (¬ 0 ≤ r2 → gx_C (gm_O θ) mX7_found0 [.ref (gm_am θ), .int r2] X2 (gm_Pi (fun r12 X12 => P r12 X12))))))) : gm_G θ K mX7_copy (gm_Pi P) 0 [(0, .ref (gm_am θ)), (1, .int x1), (2, .int x2)] [] X := by
  refine gx_aload_n h 0 rfl dX7_copy_0 ?_
  refine gx_iload_n h 1 rfl dX7_copy_1 ?_
  refine gm_c_lacks h rfl ⟨Nat.le_of_ble_eq_true rfl, Nat.le_of_ble_eq_true rfl⟩ (Nat.le_of_ble_eq_true rfl) dX7_copy_2 (gx_C.mono k ?_)
  rintro _ X2 ⟨r2, rfl, k⟩
  refine ⟨r2, rfl, ?_⟩
  refine gx_istore_n (L' := [(3, .int r2), (0, .ref (gm_am θ)), (1, .int x1), (2, .int x2)]) h (by decide) rfl dX7_copy_5 ?_
  refine gx_iload_n h 0 rfl dX7_copy_6 ?_
  refine gx_if_ge (tgt := 16) h (by decide) dX7_copy_7 (fun c => ?_) (fun c => ?_)
  · replace k := k.1 c
    refine gx_iload_n h 3 rfl dX7_copy_16 ?_
    refine gm_c_isPlace h rfl ⟨Nat.le_of_ble_eq_true rfl, Nat.le_of_ble_eq_true rfl⟩ (Nat.le_of_ble_eq_true rfl) dX7_copy_17 (gx_C.mono k ?_)
    rintro _ X17 ⟨r17, rfl, k⟩
    refine ⟨r17, rfl, ?_⟩
    refine gx_if_ne (tgt := 29) h (by decide) dX7_copy_20 (fun c => ?_) (fun c => ?_)
    · replace k := k.2 c
      refine gx_aload_n h 1 rfl dX7_copy_29 ?_
      refine gx_iload_n h 2 rfl dX7_copy_30 ?_
      refine gx_iload_n h 3 rfl dX7_copy_31 ?_
      refine gm_c_copyAll h rfl ⟨Nat.le_of_ble_eq_true rfl, Nat.le_of_ble_eq_true rfl⟩ (Nat.le_of_ble_eq_true rfl) dX7_copy_32 (gx_C.mono k ?_)
      rintro _ X32 ⟨rfl, k⟩
      refine ⟨rfl, ?_⟩
      refine gx_aload_n h 1 rfl dX7_copy_35 ?_
      refine gm_get1 h rfl dX7_copy_36 ?_
      refine gx_iload_n h 3 rfl dX7_copy_39 ?_
      refine gm_ld1 h k.1 dX7_copy_40 ?_
      replace k := k.2
      exact gx_iret h rfl dX7_copy_41 ⟨_, rfl, k⟩
    · replace k := k.1 c
      refine gx_aload_n h 1 rfl dX7_copy_23 ?_
      refine gx_iconst (v := (-1)) h dX7_copy_24 (by decide) ?_
      refine gm_c_found0 h rfl ⟨Nat.le_of_ble_eq_true rfl, Nat.le_of_ble_eq_true rfl⟩ (Nat.le_of_ble_eq_true rfl) dX7_copy_25 (gx_C.mono k ?_)
      rintro _ X25 ⟨r25, rfl, k⟩
      refine ⟨r25, rfl, ?_⟩
      exact gx_iret h rfl dX7_copy_28 ⟨_, rfl, k⟩
  · replace k := k.2 c
    refine gx_aload_n h 1 rfl dX7_copy_10 ?_
    refine gx_iload_n h 0 rfl dX7_copy_11 ?_
    refine gm_c_found0 h rfl ⟨Nat.le_of_ble_eq_true rfl, Nat.le_of_ble_eq_true rfl⟩ (Nat.le_of_ble_eq_true rfl) dX7_copy_12 (gx_C.mono k ?_)
    rintro _ X12 ⟨r12, rfl, k⟩
    refine ⟨r12, rfl, ?_⟩
    exact gx_iret h rfl dX7_copy_15 ⟨_, rfl, k⟩
/-! clear -/
theorem em_clear {θ : gm_T} {P : Int32 → gm_X → Prop} {X : gm_X} {x1 : Int32} (body : ∀ K, gm_K θ K mX7_clear → gm_G θ K mX7_clear (gm_Pi P) 0 [(0, .ref (gm_am θ)), (1, .int x1)] [] X) : gx_C (gm_O θ) mX7_clear [.ref (gm_am θ), .int x1] X (gm_Pi P) :=
  gx_C.intro (gm_z θ) (by decide) (Nat.le_of_ble_eq_true rfl) body
theorem bm_clear_0 {θ : gm_T} {K : gx_K} {P : Int32 → gm_X → Prop} {X : gm_X} {x1 : Int32} (h : gm_K θ K mX7_clear) (k : gx_C (gm_O θ) mX7_isPlace [.int x1] X (gm_Pi (fun r1 X1 => ((r1 = 0 → gx_C (gm_O θ) mX7_found0 [.ref (gm_am θ), .int (-1)] X1 (gm_Pi (fun r9 X9 => P r9 X9))) ∧ (¬ r1 = 0 → vp_in x1 11 ∧ (((X1.2 1 x1.toNatClampNeg) ≤ 0 → vp_in x1 11 ∧ ∀ X34, X34 = gm_pA X1 1 x1.toNatClampNeg 0 → P 0 X34) ∧ (¬ (X1.2 1 x1.toNatClampNeg) ≤ 0 → vp_in x1 11 ∧ ∀ X34, X34 = gm_pA X1 1 x1.toNatClampNeg 0 → P 1 X34))))))) : gm_G θ K mX7_clear (gm_Pi P) 0 [(0, .ref (gm_am θ)), (1, .int x1)] [] X := by
  refine gx_iload_n h 1 rfl dX7_clear_0 ?_
  refine gm_c_isPlace h rfl ⟨Nat.le_of_ble_eq_true rfl, Nat.le_of_ble_eq_true rfl⟩ (Nat.le_of_ble_eq_true rfl) dX7_clear_1 (gx_C.mono k ?_)
  rintro _ X1 ⟨r1, rfl, k⟩
  refine ⟨r1, rfl, ?_⟩
  refine gx_if_ne (tgt := 13) h (by decide) dX7_clear_4 (fun c => ?_) (fun c => ?_)
  · replace k := k.2 c
    refine gx_aload_n h 0 rfl dX7_clear_13 ?_
    refine gm_get1 h rfl dX7_clear_14 ?_
    refine gx_iload_n h 1 rfl dX7_clear_17 ?_
    refine gm_ld1 h k.1 dX7_clear_18 ?_
    replace k := k.2
    refine gx_if_le (tgt := 26) h (by decide) dX7_clear_19 (fun c => ?_) (fun c => ?_)
    · replace k := k.1 c
      refine gx_iconst (v := 0) h dX7_clear_26 (by decide) ?_
      refine gx_istore_n (L' := [(2, .int 0), (0, .ref (gm_am θ)), (1, .int x1)]) h (by decide) rfl dX7_clear_27 ?_
      refine gx_aload_n h 1 rfl dX7_clear_28 ?_
      refine gm_get1 h rfl dX7_clear_29 ?_
      refine gx_iload_n h 2 rfl dX7_clear_32 ?_
      refine gx_iconst (v := 0) h dX7_clear_33 (by decide) ?_
      refine gm_st1 h k.1 dX7_clear_34 ?_
      generalize hz : gm_pA X1 1 x1.toNatClampNeg 0 = X34
      replace k := k.2 X34 hz.symm
      refine gx_iload_n h 0 rfl dX7_clear_35 ?_
      exact gx_iret h rfl dX7_clear_36 ⟨_, rfl, k⟩
    · replace k := k.2 c
      refine gx_iconst (v := 1) h dX7_clear_22 (by decide) ?_
      refine gx_goto (tgt := 27) h (by decide) dX7_clear_23 ?_
      refine gx_istore_n (L' := [(2, .int 1), (0, .ref (gm_am θ)), (1, .int x1)]) h (by decide) rfl dX7_clear_27 ?_
      refine gx_aload_n h 1 rfl dX7_clear_28 ?_
      refine gm_get1 h rfl dX7_clear_29 ?_
      refine gx_iload_n h 2 rfl dX7_clear_32 ?_
      refine gx_iconst (v := 0) h dX7_clear_33 (by decide) ?_
      refine gm_st1 h k.1 dX7_clear_34 ?_
      generalize hz : gm_pA X1 1 x1.toNatClampNeg 0 = X34
      replace k := k.2 X34 hz.symm
      refine gx_iload_n h 0 rfl dX7_clear_35 ?_
      exact gx_iret h rfl dX7_clear_36 ⟨_, rfl, k⟩
  · replace k := k.1 c
    refine gx_aload_n h 0 rfl dX7_clear_7 ?_
    refine gx_iconst (v := (-1)) h dX7_clear_8 (by decide) ?_
    refine gm_c_found0 h rfl ⟨Nat.le_of_ble_eq_true rfl, Nat.le_of_ble_eq_true rfl⟩ (Nat.le_of_ble_eq_true rfl) dX7_clear_9 (gx_C.mono k ?_)
    rintro _ X9 ⟨r9, rfl, k⟩
    refine ⟨r9, rfl, ?_⟩
    exact gx_iret h rfl dX7_clear_12 ⟨_, rfl, k⟩
/-! node -/
theorem em_node {θ : gm_T} {P : Int32 → gm_X → Prop} {X : gm_X} {x1 : Int32} {x2 : Int32} {x3 : Int32} (body : ∀ K, gm_K θ K mX7_node → gm_G θ K mX7_node (gm_Pi P) 0 [(0, .ref (gm_am θ)), (1, .int x1), (2, .int x2), (3, .int x3)] [] X) : gx_C (gm_O θ) mX7_node [.ref (gm_am θ), .int x1, .int x2, .int x3] X (gm_Pi P) :=
  gx_C.intro (gm_z θ) (by decide) (Nat.le_of_ble_eq_true rfl) body
theorem bm_node_0 {θ : gm_T} {K : gx_K} {P : Int32 → gm_X → Prop} {X : gm_X} {x1 x2 x3 : Int32} (h : gm_K θ K mX7_node) (k : gx_C (gm_O θ) mX7_lacks [.ref (gm_am θ), .int x1] X (gm_Pi (fun r2 X2 => ((0 ≤ r2 → vp_in x1 11 ∧ gx_C (gm_O θ) mX7_in [.int x2, .int 0, .int ((X2.2 1 x1.toNatClampNeg) - 1)] X2 (gm_Pi (fun r29 X29 => ((r29 = 0 → gm_G θ K mX7_node (gm_Pi P) 45 [(0, .ref (gm_am θ))] [] X29) ∧ (¬ r29 = 0 → gx_C (gm_O θ) mX7_in [.int x3, .int 0, .int 8] X29 (gm_Pi (fun r39 X39 => ((r39 = 0 → gm_G θ K mX7_node (gm_Pi P) 45 [(0, .ref (gm_am θ))] [] X39) ∧ (¬ r39 = 0 → ((x3 = 0 → gx_C (gm_O θ) mX7_of [.ref (gm_am θ), .int x1, .int x2, .int 0] X39 (gm_Pi (fun r104 X104 => P r104 X104))) ∧ (x3 = 1 → gx_C (gm_O θ) mX7_of [.ref (gm_am θ), .int x1, .int x2, .int 1] X39 (gm_Pi (fun r112 X112 => P r112 X112))) ∧ (x3 = 2 → gx_C (gm_O θ) mX7_children [.ref (gm_am θ), .int x1, .int x2] X39 (gm_Pi (fun r119 X119 => P r119 X119))) ∧ (x3 = 3 → gx_C (gm_O θ) mX7_deep [.ref (gm_am θ), .int x1, .int x2] X39 (gm_Pi (fun r126 X126 => P r126 X126))) ∧ (x3 = 4 → ((x2 = 0 → P (-8) X39) ∧ (¬ x2 = 0 → gx_C (gm_O θ) mX7_parent [.ref (gm_am θ), .int x1, .int x2] X39 (gm_Pi (fun r144 X144 => gx_C (gm_O θ) mX7_of [.ref (gm_am θ), .int x1, .int r144, .int 0] X144 (gm_Pi (fun r148 X148 => P r148 X148))))))) ∧ (x3 = 5 → gx_C (gm_O θ) mX7_end [.ref (gm_am θ), .int x1, .int x2] X39 (gm_Pi (fun r155 X155 => P (r155 - x2) X155))) ∧ (x3 = 6 → gx_C (gm_O θ) mX7_behind [.ref (gm_am θ), .int x1, .int x2] X39 (gm_Pi (fun r164 X164 => P r164 X164))) ∧ (x3 = 7 → gx_C (gm_O θ) mX7_of [.ref (gm_am θ), .int x1, .int x2, .int 3] X39 (gm_Pi (fun r172 X172 => P r172 X172))) ∧ (¬ x3 = 0 → ¬ x3 = 1 → ¬ x3 = 2 → ¬ x3 = 3 → ¬ x3 = 4 → ¬ x3 = 5 → ¬ x3 = 6 → ¬ x3 = 7 → gx_C (gm_O θ) mX7_of [.ref (gm_am θ), .int x1, .int x2, .int 10] X39 (gm_Pi (fun r181 X181 => P r181 X181))))))))))))) ∧ (¬ 0 ≤ r2 → gx_C (gm_O θ) mX7_found0 [.ref (gm_am θ), .int r2] X2 (gm_Pi (fun r15 X15 => P r15 X15))))))) : gm_G θ K mX7_node (gm_Pi P) 0 [(0, .ref (gm_am θ)), (1, .int x1), (2, .int x2), (3, .int x3)] [] X := by
  refine gx_aload_n h 0 rfl dX7_node_0 ?_
  refine gx_iload_n h 1 rfl dX7_node_1 ?_
  refine gm_c_lacks h rfl ⟨Nat.le_of_ble_eq_true rfl, Nat.le_of_ble_eq_true rfl⟩ (Nat.le_of_ble_eq_true rfl) dX7_node_2 (gx_C.mono k ?_)
  rintro _ X2 ⟨r2, rfl, k⟩
  refine ⟨r2, rfl, ?_⟩
  refine gx_istore (L' := [(4, .int r2), (0, .ref (gm_am θ)), (1, .int x1), (2, .int x2), (3, .int x3)]) h (by decide) rfl dX7_node_5 ?_
  refine gx_iload h 0 rfl dX7_node_7 ?_
  refine gx_if_ge (tgt := 19) h (by decide) dX7_node_9 (fun c => ?_) (fun c => ?_)
  · replace k := k.1 c
    refine gx_iload_n h 3 rfl dX7_node_19 ?_
    refine gx_iconst (v := 0) h dX7_node_20 (by decide) ?_
    refine gx_aload_n h 1 rfl dX7_node_21 ?_
    refine gm_get1 h rfl dX7_node_22 ?_
    refine gx_iload_n h 2 rfl dX7_node_25 ?_
    refine gm_ld1 h k.1 dX7_node_26 ?_
    replace k := k.2
    refine gx_iconst (v := 1) h dX7_node_27 (by decide) ?_
    refine gx_isub h dX7_node_28 ?_
    refine gm_c_in h rfl ⟨Nat.le_of_ble_eq_true rfl, Nat.le_of_ble_eq_true rfl⟩ (Nat.le_of_ble_eq_true rfl) dX7_node_29 (gx_C.mono k ?_)
    rintro _ X29 ⟨r29, rfl, k⟩
    refine ⟨r29, rfl, ?_⟩
    refine gx_if_eq (tgt := 45) h (by decide) dX7_node_32 (fun c => ?_) (fun c => ?_)
    · replace k := k.1 c
      exact gx_sub [1] rfl k
    · replace k := k.2 c
      refine gx_iload_n h 4 rfl dX7_node_35 ?_
      refine gx_iconst (v := 0) h dX7_node_36 (by decide) ?_
      refine gx_bipush (v := 8) h dX7_node_37 (by decide) ?_
      refine gm_c_in h rfl ⟨Nat.le_of_ble_eq_true rfl, Nat.le_of_ble_eq_true rfl⟩ (Nat.le_of_ble_eq_true rfl) dX7_node_39 (gx_C.mono k ?_)
      rintro _ X39 ⟨r39, rfl, k⟩
      refine ⟨r39, rfl, ?_⟩
      refine gx_if_ne (tgt := 51) h (by decide) dX7_node_42 (fun c => ?_) (fun c => ?_)
      · replace k := k.2 c
        refine gx_iload_n h 4 rfl dX7_node_51 ?_
        refine gx_tsw2 (N := 8) (tgt := 176) (fun j => match j with | 0 => 100 | 1 => 108 | 2 => 116 | 3 => 123 | 4 => 130 | 5 => 152 | 6 => 161 | _ => 168) h (by decide) dX7_node_52 (by decide) (by decide) ?_ ?_ (by decide)
        · intro j hj hu
          match j, hj, hu with
          | 0, _, hu =>
            replace k := k.1 hu
            refine gx_aload_n h 1 rfl dX7_node_100 ?_
            refine gx_iload_n h 2 rfl dX7_node_101 ?_
            refine gx_iload_n h 3 rfl dX7_node_102 ?_
            refine gx_iconst (v := 0) h dX7_node_103 (by decide) ?_
            refine gm_c_of h rfl ⟨Nat.le_of_ble_eq_true rfl, Nat.le_of_ble_eq_true rfl⟩ (Nat.le_of_ble_eq_true rfl) dX7_node_104 (gx_C.mono k ?_)
            rintro _ X104 ⟨r104, rfl, k⟩
            refine ⟨r104, rfl, ?_⟩
            exact gx_iret h rfl dX7_node_107 ⟨_, rfl, k⟩
          | 1, _, hu =>
            replace k := k.2.1 hu
            refine gx_aload_n h 1 rfl dX7_node_108 ?_
            refine gx_iload_n h 2 rfl dX7_node_109 ?_
            refine gx_iload_n h 3 rfl dX7_node_110 ?_
            refine gx_iconst (v := 1) h dX7_node_111 (by decide) ?_
            refine gm_c_of h rfl ⟨Nat.le_of_ble_eq_true rfl, Nat.le_of_ble_eq_true rfl⟩ (Nat.le_of_ble_eq_true rfl) dX7_node_112 (gx_C.mono k ?_)
            rintro _ X112 ⟨r112, rfl, k⟩
            refine ⟨r112, rfl, ?_⟩
            exact gx_iret h rfl dX7_node_115 ⟨_, rfl, k⟩
          | 2, _, hu =>
            replace k := k.2.2.1 hu
            refine gx_aload_n h 1 rfl dX7_node_116 ?_
            refine gx_iload_n h 2 rfl dX7_node_117 ?_
            refine gx_iload_n h 3 rfl dX7_node_118 ?_
            refine gm_c_children h rfl ⟨Nat.le_of_ble_eq_true rfl, Nat.le_of_ble_eq_true rfl⟩ (Nat.le_of_ble_eq_true rfl) dX7_node_119 (gx_C.mono k ?_)
            rintro _ X119 ⟨r119, rfl, k⟩
            refine ⟨r119, rfl, ?_⟩
            exact gx_iret h rfl dX7_node_122 ⟨_, rfl, k⟩
          | 3, _, hu =>
            replace k := k.2.2.2.1 hu
            refine gx_aload_n h 1 rfl dX7_node_123 ?_
            refine gx_iload_n h 2 rfl dX7_node_124 ?_
            refine gx_iload_n h 3 rfl dX7_node_125 ?_
            refine gm_c_deep h rfl ⟨Nat.le_of_ble_eq_true rfl, Nat.le_of_ble_eq_true rfl⟩ (Nat.le_of_ble_eq_true rfl) dX7_node_126 (gx_C.mono k ?_)
            rintro _ X126 ⟨r126, rfl, k⟩
            refine ⟨r126, rfl, ?_⟩
            exact gx_iret h rfl dX7_node_129 ⟨_, rfl, k⟩
          | 4, _, hu =>
            replace k := k.2.2.2.2.1 hu
            refine gx_iload_n h 3 rfl dX7_node_130 ?_
            refine gx_if_ne (tgt := 139) h (by decide) dX7_node_131 (fun c => ?_) (fun c => ?_)
            · replace k := k.2 c
              refine gx_aload_n h 1 rfl dX7_node_139 ?_
              refine gx_iload_n h 2 rfl dX7_node_140 ?_
              refine gx_aload_n h 1 rfl dX7_node_141 ?_
              refine gx_iload_n h 2 rfl dX7_node_142 ?_
              refine gx_iload_n h 3 rfl dX7_node_143 ?_
              refine gm_c_parent h rfl ⟨Nat.le_of_ble_eq_true rfl, Nat.le_of_ble_eq_true rfl⟩ (Nat.le_of_ble_eq_true rfl) dX7_node_144 (gx_C.mono k ?_)
              rintro _ X144 ⟨r144, rfl, k⟩
              refine ⟨r144, rfl, ?_⟩
              refine gx_iconst (v := 0) h dX7_node_147 (by decide) ?_
              refine gm_c_of h rfl ⟨Nat.le_of_ble_eq_true rfl, Nat.le_of_ble_eq_true rfl⟩ (Nat.le_of_ble_eq_true rfl) dX7_node_148 (gx_C.mono k ?_)
              rintro _ X148 ⟨r148, rfl, k⟩
              refine ⟨r148, rfl, ?_⟩
              exact gx_iret h rfl dX7_node_151 ⟨_, rfl, k⟩
            · replace k := k.1 c
              refine gx_bipush (v := (-8)) h dX7_node_134 (by decide) ?_
              refine gx_goto (tgt := 151) h (by decide) dX7_node_136 ?_
              exact gx_iret h rfl dX7_node_151 ⟨_, rfl, k⟩
          | 5, _, hu =>
            replace k := k.2.2.2.2.2.1 hu
            refine gx_aload_n h 1 rfl dX7_node_152 ?_
            refine gx_iload_n h 2 rfl dX7_node_153 ?_
            refine gx_iload_n h 3 rfl dX7_node_154 ?_
            refine gm_c_end h rfl ⟨Nat.le_of_ble_eq_true rfl, Nat.le_of_ble_eq_true rfl⟩ (Nat.le_of_ble_eq_true rfl) dX7_node_155 (gx_C.mono k ?_)
            rintro _ X155 ⟨r155, rfl, k⟩
            refine ⟨r155, rfl, ?_⟩
            refine gx_iload_n h 3 rfl dX7_node_158 ?_
            refine gx_isub h dX7_node_159 ?_
            exact gx_iret h rfl dX7_node_160 ⟨_, rfl, k⟩
          | 6, _, hu =>
            replace k := k.2.2.2.2.2.2.1 hu
            refine gx_aload_n h 1 rfl dX7_node_161 ?_
            refine gx_iload_n h 2 rfl dX7_node_162 ?_
            refine gx_iload_n h 3 rfl dX7_node_163 ?_
            refine gm_c_behind h rfl ⟨Nat.le_of_ble_eq_true rfl, Nat.le_of_ble_eq_true rfl⟩ (Nat.le_of_ble_eq_true rfl) dX7_node_164 (gx_C.mono k ?_)
            rintro _ X164 ⟨r164, rfl, k⟩
            refine ⟨r164, rfl, ?_⟩
            exact gx_iret h rfl dX7_node_167 ⟨_, rfl, k⟩
          | 7, _, hu =>
            replace k := k.2.2.2.2.2.2.2.1 hu
            refine gx_aload_n h 1 rfl dX7_node_168 ?_
            refine gx_iload_n h 2 rfl dX7_node_169 ?_
            refine gx_iload_n h 3 rfl dX7_node_170 ?_
            refine gx_iconst (v := 3) h dX7_node_171 (by decide) ?_
            refine gm_c_of h rfl ⟨Nat.le_of_ble_eq_true rfl, Nat.le_of_ble_eq_true rfl⟩ (Nat.le_of_ble_eq_true rfl) dX7_node_172 (gx_C.mono k ?_)
            rintro _ X172 ⟨r172, rfl, k⟩
            refine ⟨r172, rfl, ?_⟩
            exact gx_iret h rfl dX7_node_175 ⟨_, rfl, k⟩
          | j + 8, hj, _ => exact absurd hj (by omega)
        · intro hu
          replace k := k.2.2.2.2.2.2.2.2 (hu 0 (by decide)) (hu 1 (by decide)) (hu 2 (by decide)) (hu 3 (by decide)) (hu 4 (by decide)) (hu 5 (by decide)) (hu 6 (by decide)) (hu 7 (by decide))
          refine gx_aload_n h 1 rfl dX7_node_176 ?_
          refine gx_iload_n h 2 rfl dX7_node_177 ?_
          refine gx_iload_n h 3 rfl dX7_node_178 ?_
          refine gx_bipush (v := 10) h dX7_node_179 (by decide) ?_
          refine gm_c_of h rfl ⟨Nat.le_of_ble_eq_true rfl, Nat.le_of_ble_eq_true rfl⟩ (Nat.le_of_ble_eq_true rfl) dX7_node_181 (gx_C.mono k ?_)
          rintro _ X181 ⟨r181, rfl, k⟩
          refine ⟨r181, rfl, ?_⟩
          exact gx_iret h rfl dX7_node_184 ⟨_, rfl, k⟩
      · replace k := k.1 c
        exact gx_sub [1] rfl k
  · replace k := k.2 c
    refine gx_aload_n h 1 rfl dX7_node_12 ?_
    refine gx_iload h 0 rfl dX7_node_13 ?_
    refine gm_c_found0 h rfl ⟨Nat.le_of_ble_eq_true rfl, Nat.le_of_ble_eq_true rfl⟩ (Nat.le_of_ble_eq_true rfl) dX7_node_15 (gx_C.mono k ?_)
    rintro _ X15 ⟨r15, rfl, k⟩
    refine ⟨r15, rfl, ?_⟩
    exact gx_iret h rfl dX7_node_18 ⟨_, rfl, k⟩
theorem bm_node_45 {θ : gm_T} {K : gx_K} {P : Int32 → gm_X → Prop} {X : gm_X} (h : gm_K θ K mX7_node) (k : gx_C (gm_O θ) mX7_found0 [.ref (gm_am θ), .int (-1)] X (gm_Pi (fun r47 X47 => P r47 X47))) : gm_G θ K mX7_node (gm_Pi P) 45 [(0, .ref (gm_am θ))] [] X := by
  refine gx_aload_n h 0 rfl dX7_node_45 ?_
  refine gx_iconst (v := (-1)) h dX7_node_46 (by decide) ?_
  refine gm_c_found0 h rfl ⟨Nat.le_of_ble_eq_true rfl, Nat.le_of_ble_eq_true rfl⟩ (Nat.le_of_ble_eq_true rfl) dX7_node_47 (gx_C.mono k ?_)
  rintro _ X47 ⟨r47, rfl, k⟩
  refine ⟨r47, rfl, ?_⟩
  exact gx_iret h rfl dX7_node_50 ⟨_, rfl, k⟩
/-! children -/
theorem em_children {θ : gm_T} {P : Int32 → gm_X → Prop} {X : gm_X} {x1 : Int32} {x2 : Int32} (body : ∀ K, gm_K θ K mX7_children → gm_G θ K mX7_children (gm_Pi P) 0 [(0, .ref (gm_am θ)), (1, .int x1), (2, .int x2)] [] X) : gx_C (gm_O θ) mX7_children [.ref (gm_am θ), .int x1, .int x2] X (gm_Pi P) :=
  gx_C.intro (gm_z θ) (by decide) (Nat.le_of_ble_eq_true rfl) body
theorem bm_children_0 {θ : gm_T} {K : gx_K} {P : Int32 → gm_X → Prop} {X : gm_X} {x1 x2 : Int32} (h : gm_K θ K mX7_children) (k : gm_G θ K mX7_children (gm_Pi P) 7 [(0, .ref (gm_am θ)), (1, .int x1), (2, .int x2), (3, .int 0), (4, .int (x2 + 1))] [] X) : gm_G θ K mX7_children (gm_Pi P) 0 [(0, .ref (gm_am θ)), (1, .int x1), (2, .int x2)] [] X := by
  refine gx_iconst (v := 0) h dX7_children_0 (by decide) ?_
  refine gx_istore_n (L' := [(3, .int 0), (0, .ref (gm_am θ)), (1, .int x1), (2, .int x2)]) h (by decide) rfl dX7_children_1 ?_
  refine gx_iload_n h 3 rfl dX7_children_2 ?_
  refine gx_iconst (v := 1) h dX7_children_3 (by decide) ?_
  refine gx_iadd h dX7_children_4 ?_
  refine gx_istore (L' := [(4, .int (x2 + 1)), (3, .int 0), (0, .ref (gm_am θ)), (1, .int x1), (2, .int x2)]) h (by decide) rfl dX7_children_5 ?_
  exact gx_sub [2, 3, 4, 1, 0] rfl k
theorem bm_children_7 {θ : gm_T} {K : gx_K} {P : Int32 → gm_X → Prop} {X : gm_X} {x1 x2 x3 x4 : Int32} (h : gm_K θ K mX7_children) (k : gx_C (gm_O θ) mX7_end [.ref (gm_am θ), .int x1, .int x2] X (gm_Pi (fun r12 X12 => ((r12 ≤ x4 → P x3 X12) ∧ (¬ r12 ≤ x4 → gx_C (gm_O θ) mX7_end [.ref (gm_am θ), .int x1, .int x4] X12 (gm_Pi (fun r25 X25 => gm_G θ K mX7_children (gm_Pi P) 7 [(0, .ref (gm_am θ)), (1, .int x1), (2, .int x2), (3, .int (x3 + 1)), (4, .int r25)] [] X25))))))) : gm_G θ K mX7_children (gm_Pi P) 7 [(0, .ref (gm_am θ)), (1, .int x1), (2, .int x2), (3, .int x3), (4, .int x4)] [] X := by
  refine gx_iload h 4 rfl dX7_children_7 ?_
  refine gx_aload_n h 0 rfl dX7_children_9 ?_
  refine gx_iload_n h 1 rfl dX7_children_10 ?_
  refine gx_iload_n h 2 rfl dX7_children_11 ?_
  refine gm_c_end h rfl ⟨Nat.le_of_ble_eq_true rfl, Nat.le_of_ble_eq_true rfl⟩ (Nat.le_of_ble_eq_true rfl) dX7_children_12 (gx_C.mono k ?_)
  rintro _ X12 ⟨r12, rfl, k⟩
  refine ⟨r12, rfl, ?_⟩
  refine gx_icmp_ge (tgt := 33) h (by decide) dX7_children_15 (fun c => ?_) (fun c => ?_)
  · replace k := k.1 c
    refine gx_iload_n h 3 rfl dX7_children_33 ?_
    exact gx_iret h rfl dX7_children_34 ⟨_, rfl, k⟩
  · replace k := k.2 c
    refine gx_iinc (v := x3 + 1) (L' := [(3, .int (x3 + 1)), (0, .ref (gm_am θ)), (1, .int x1), (2, .int x2), (4, .int x4)]) h 3 rfl rfl (by decide) rfl dX7_children_18 ?_
    refine gx_aload_n h 1 rfl dX7_children_21 ?_
    refine gx_iload_n h 2 rfl dX7_children_22 ?_
    refine gx_iload h 4 rfl dX7_children_23 ?_
    refine gm_c_end h rfl ⟨Nat.le_of_ble_eq_true rfl, Nat.le_of_ble_eq_true rfl⟩ (Nat.le_of_ble_eq_true rfl) dX7_children_25 (gx_C.mono k ?_)
    rintro _ X25 ⟨r25, rfl, k⟩
    refine ⟨r25, rfl, ?_⟩
    refine gx_istore (L' := [(4, .int r25), (3, .int (x3 + 1)), (0, .ref (gm_am θ)), (1, .int x1), (2, .int x2)]) h (by decide) rfl dX7_children_28 ?_
    refine gx_goto (tgt := 7) h (by decide) dX7_children_30 ?_
    exact gx_sub [2, 3, 4, 1, 0] rfl k
/-! behind -/
theorem em_behind {θ : gm_T} {P : Int32 → gm_X → Prop} {X : gm_X} {x1 : Int32} {x2 : Int32} (body : ∀ K, gm_K θ K mX7_behind → gm_G θ K mX7_behind (gm_Pi P) 0 [(0, .ref (gm_am θ)), (1, .int x1), (2, .int x2)] [] X) : gx_C (gm_O θ) mX7_behind [.ref (gm_am θ), .int x1, .int x2] X (gm_Pi P) :=
  gx_C.intro (gm_z θ) (by decide) (Nat.le_of_ble_eq_true rfl) body
theorem bm_behind_0 {θ : gm_T} {K : gx_K} {P : Int32 → gm_X → Prop} {X : gm_X} {x1 x2 : Int32} (h : gm_K θ K mX7_behind) (k : gx_C (gm_O θ) mX7_end [.ref (gm_am θ), .int x1, .int x2] X (gm_Pi (fun r3 X3 => gm_G θ K mX7_behind (gm_Pi P) 14 [(0, .ref (gm_am θ)), (1, .int x1), (2, .int x2), (3, .int ((r3 - x2) - 1)), (4, .int 0)] [] X3))) : gm_G θ K mX7_behind (gm_Pi P) 0 [(0, .ref (gm_am θ)), (1, .int x1), (2, .int x2)] [] X := by
  refine gx_aload_n h 0 rfl dX7_behind_0 ?_
  refine gx_iload_n h 1 rfl dX7_behind_1 ?_
  refine gx_iload_n h 2 rfl dX7_behind_2 ?_
  refine gm_c_end h rfl ⟨Nat.le_of_ble_eq_true rfl, Nat.le_of_ble_eq_true rfl⟩ (Nat.le_of_ble_eq_true rfl) dX7_behind_3 (gx_C.mono k ?_)
  rintro _ X3 ⟨r3, rfl, k⟩
  refine ⟨r3, rfl, ?_⟩
  refine gx_iload_n h 2 rfl dX7_behind_6 ?_
  refine gx_isub h dX7_behind_7 ?_
  refine gx_iconst (v := 1) h dX7_behind_8 (by decide) ?_
  refine gx_isub h dX7_behind_9 ?_
  refine gx_istore_n (L' := [(3, .int ((r3 - x2) - 1)), (0, .ref (gm_am θ)), (1, .int x1), (2, .int x2)]) h (by decide) rfl dX7_behind_10 ?_
  refine gx_iconst (v := 0) h dX7_behind_11 (by decide) ?_
  refine gx_istore (L' := [(4, .int 0), (3, .int ((r3 - x2) - 1)), (0, .ref (gm_am θ)), (1, .int x1), (2, .int x2)]) h (by decide) rfl dX7_behind_12 ?_
  exact gx_sub [2, 3, 4, 1, 0] rfl k
theorem bm_behind_14 {θ : gm_T} {K : gx_K} {P : Int32 → gm_X → Prop} {X : gm_X} {x1 x2 x3 x4 : Int32} (h : gm_K θ K mX7_behind) (k : ((x2 ≤ x4 → P x3 X) ∧ (¬ x2 ≤ x4 → gx_C (gm_O θ) mX7_end [.ref (gm_am θ), .int x1, .int x4] X (gm_Pi (fun r25 X25 => ((r25 ≤ x2 → gm_G θ K mX7_behind (gm_Pi P) 14 [(0, .ref (gm_am θ)), (1, .int x1), (2, .int x2), (3, .int (x3 + 1)), (4, .int (x4 + 1))] [] X25) ∧ (¬ r25 ≤ x2 → gm_G θ K mX7_behind (gm_Pi P) 14 [(0, .ref (gm_am θ)), (1, .int x1), (2, .int x2), (3, .int (x3 + 0)), (4, .int (x4 + 1))] [] X25))))))) : gm_G θ K mX7_behind (gm_Pi P) 14 [(0, .ref (gm_am θ)), (1, .int x1), (2, .int x2), (3, .int x3), (4, .int x4)] [] X := by
  refine gx_iload h 4 rfl dX7_behind_14 ?_
  refine gx_iload_n h 2 rfl dX7_behind_16 ?_
  refine gx_icmp_ge (tgt := 45) h (by decide) dX7_behind_17 (fun c => ?_) (fun c => ?_)
  · replace k := k.1 c
    refine gx_iload_n h 3 rfl dX7_behind_45 ?_
    exact gx_iret h rfl dX7_behind_46 ⟨_, rfl, k⟩
  · replace k := k.2 c
    refine gx_iload_n h 3 rfl dX7_behind_20 ?_
    refine gx_aload_n h 0 rfl dX7_behind_21 ?_
    refine gx_iload_n h 1 rfl dX7_behind_22 ?_
    refine gx_iload h 4 rfl dX7_behind_23 ?_
    refine gm_c_end h rfl ⟨Nat.le_of_ble_eq_true rfl, Nat.le_of_ble_eq_true rfl⟩ (Nat.le_of_ble_eq_true rfl) dX7_behind_25 (gx_C.mono k ?_)
    rintro _ X25 ⟨r25, rfl, k⟩
    refine ⟨r25, rfl, ?_⟩
    refine gx_iload_n h 2 rfl dX7_behind_28 ?_
    refine gx_icmp_le (tgt := 36) h (by decide) dX7_behind_29 (fun c => ?_) (fun c => ?_)
    · replace k := k.1 c
      refine gx_iconst (v := 1) h dX7_behind_36 (by decide) ?_
      refine gx_iadd h dX7_behind_37 ?_
      refine gx_istore_n (L' := [(3, .int (x3 + 1)), (0, .ref (gm_am θ)), (1, .int x1), (2, .int x2), (4, .int x4)]) h (by decide) rfl dX7_behind_38 ?_
      refine gx_iinc (v := x4 + 1) (L' := [(4, .int (x4 + 1)), (3, .int (x3 + 1)), (0, .ref (gm_am θ)), (1, .int x1), (2, .int x2)]) h 4 rfl rfl (by decide) rfl dX7_behind_39 ?_
      refine gx_goto (tgt := 14) h (by decide) dX7_behind_42 ?_
      exact gx_sub [2, 3, 4, 1, 0] rfl k
    · replace k := k.2 c
      refine gx_iconst (v := 0) h dX7_behind_32 (by decide) ?_
      refine gx_goto (tgt := 37) h (by decide) dX7_behind_33 ?_
      refine gx_iadd h dX7_behind_37 ?_
      refine gx_istore_n (L' := [(3, .int (x3 + 0)), (0, .ref (gm_am θ)), (1, .int x1), (2, .int x2), (4, .int x4)]) h (by decide) rfl dX7_behind_38 ?_
      refine gx_iinc (v := x4 + 1) (L' := [(4, .int (x4 + 1)), (3, .int (x3 + 0)), (0, .ref (gm_am θ)), (1, .int x1), (2, .int x2)]) h 4 rfl rfl (by decide) rfl dX7_behind_39 ?_
      refine gx_goto (tgt := 14) h (by decide) dX7_behind_42 ?_
      exact gx_sub [2, 3, 4, 1, 0] rfl k
/-! size -/
theorem em_size {θ : gm_T} {P : Int32 → gm_X → Prop} {X : gm_X} {x1 : Int32} (body : ∀ K, gm_K θ K mX7_size → gm_G θ K mX7_size (gm_Pi P) 0 [(0, .ref (gm_am θ)), (1, .int x1)] [] X) : gx_C (gm_O θ) mX7_size [.ref (gm_am θ), .int x1] X (gm_Pi P) :=
  gx_C.intro (gm_z θ) (by decide) (Nat.le_of_ble_eq_true rfl) body
theorem bm_size_0 {θ : gm_T} {K : gx_K} {P : Int32 → gm_X → Prop} {X : gm_X} {x1 : Int32} (h : gm_K θ K mX7_size) (k : gx_C (gm_O θ) mX7_lacks [.ref (gm_am θ), .int x1] X (gm_Pi (fun r2 X2 => ((0 ≤ r2 → vp_in x1 11 ∧ P (X2.2 1 x1.toNatClampNeg) X2) ∧ (¬ 0 ≤ r2 → gx_C (gm_O θ) mX7_found0 [.ref (gm_am θ), .int r2] X2 (gm_Pi (fun r12 X12 => P r12 X12))))))) : gm_G θ K mX7_size (gm_Pi P) 0 [(0, .ref (gm_am θ)), (1, .int x1)] [] X := by
  refine gx_aload_n h 0 rfl dX7_size_0 ?_
  refine gx_iload_n h 1 rfl dX7_size_1 ?_
  refine gm_c_lacks h rfl ⟨Nat.le_of_ble_eq_true rfl, Nat.le_of_ble_eq_true rfl⟩ (Nat.le_of_ble_eq_true rfl) dX7_size_2 (gx_C.mono k ?_)
  rintro _ X2 ⟨r2, rfl, k⟩
  refine ⟨r2, rfl, ?_⟩
  refine gx_istore_n (L' := [(2, .int r2), (0, .ref (gm_am θ)), (1, .int x1)]) h (by decide) rfl dX7_size_5 ?_
  refine gx_iload_n h 0 rfl dX7_size_6 ?_
  refine gx_if_ge (tgt := 18) h (by decide) dX7_size_7 (fun c => ?_) (fun c => ?_)
  · replace k := k.1 c
    refine gx_aload_n h 1 rfl dX7_size_18 ?_
    refine gm_get1 h rfl dX7_size_19 ?_
    refine gx_iload_n h 2 rfl dX7_size_22 ?_
    refine gm_ld1 h k.1 dX7_size_23 ?_
    replace k := k.2
    exact gx_iret h rfl dX7_size_24 ⟨_, rfl, k⟩
  · replace k := k.2 c
    refine gx_aload_n h 1 rfl dX7_size_10 ?_
    refine gx_iload_n h 0 rfl dX7_size_11 ?_
    refine gm_c_found0 h rfl ⟨Nat.le_of_ble_eq_true rfl, Nat.le_of_ble_eq_true rfl⟩ (Nat.le_of_ble_eq_true rfl) dX7_size_12 (gx_C.mono k ?_)
    rintro _ X12 ⟨r12, rfl, k⟩
    refine ⟨r12, rfl, ?_⟩
    refine gx_goto (tgt := 24) h (by decide) dX7_size_15 ?_
    exact gx_iret h rfl dX7_size_24 ⟨_, rfl, k⟩
/-! relabel -/
theorem em_relabel {θ : gm_T} {P : Int32 → gm_X → Prop} {X : gm_X} {x1 : Int32} {x2 : Int32} (body : ∀ K, gm_K θ K mX7_relabel → gm_G θ K mX7_relabel (gm_Pi P) 0 [(0, .ref (gm_am θ)), (1, .int x1), (2, .int x2)] [] X) : gx_C (gm_O θ) mX7_relabel [.ref (gm_am θ), .int x1, .int x2] X (gm_Pi P) :=
  gx_C.intro (gm_z θ) (by decide) (Nat.le_of_ble_eq_true rfl) body
theorem bm_relabel_0 {θ : gm_T} {K : gx_K} {P : Int32 → gm_X → Prop} {X : gm_X} {x1 x2 : Int32} (h : gm_K θ K mX7_relabel) (k : gx_C (gm_O θ) mX7_lacks [.ref (gm_am θ), .int x1] X (gm_Pi (fun r2 X2 => ((0 ≤ r2 → gx_C (gm_O θ) mX7_named [.ref (gm_am θ), .int x1, .int x2] X2 (gm_Pi (fun r19 X19 => ((0 ≤ r19 → gx_C (gm_O θ) mX7_copyAll [.ref (gm_am θ), .int x1, .int 8] X19 (gm_Pv (fun X40 => gx_C (gm_O θ) mX7_takes [.ref (gm_am θ), .int r19, .int 3] X40 (gm_Pi (fun r47 X47 => ((r47 = 0 → gx_C (gm_O θ) mX7_found0 [.ref (gm_am θ), .int (-3)] X47 (gm_Pi (fun r56 X56 => P r56 X56))) ∧ (¬ r47 = 0 → gx_C (gm_O θ) mX7_parent [.ref (gm_am θ), .int x1, .int r19] X47 (gm_Pi (fun r64 X64 => ((r64 < 0 → gm_G θ K mX7_relabel (gm_Pi P) 145 [(0, .ref (gm_am θ)), (1, .int x1), (4, .int r19)] [] X64) ∧ (¬ r64 < 0 → gx_C (gm_O θ) mX7_of [.ref (gm_am θ), .int x1, .int r64, .int 1] X64 (gm_Pi (fun r79 X79 => ((r79 = 2 → gm_G θ K mX7_relabel (gm_Pi P) 92 [(0, .ref (gm_am θ)), (1, .int x1), (4, .int r19), (5, .int r64), (6, .int (r64 + 1))] [] X79) ∧ (¬ r79 = 2 → gm_G θ K mX7_relabel (gm_Pi P) 145 [(0, .ref (gm_am θ)), (1, .int x1), (4, .int r19)] [] X79))))))))))))))) ∧ (¬ 0 ≤ r19 → gx_C (gm_O θ) mX7_found0 [.ref (gm_am θ), .int (-6)] X19 (gm_Pi (fun r32 X32 => P r32 X32))))))) ∧ (¬ 0 ≤ r2 → gx_C (gm_O θ) mX7_found0 [.ref (gm_am θ), .int r2] X2 (gm_Pi (fun r12 X12 => P r12 X12))))))) : gm_G θ K mX7_relabel (gm_Pi P) 0 [(0, .ref (gm_am θ)), (1, .int x1), (2, .int x2)] [] X := by
  refine gx_aload_n h 0 rfl dX7_relabel_0 ?_
  refine gx_iload_n h 1 rfl dX7_relabel_1 ?_
  refine gm_c_lacks h rfl ⟨Nat.le_of_ble_eq_true rfl, Nat.le_of_ble_eq_true rfl⟩ (Nat.le_of_ble_eq_true rfl) dX7_relabel_2 (gx_C.mono k ?_)
  rintro _ X2 ⟨r2, rfl, k⟩
  refine ⟨r2, rfl, ?_⟩
  refine gx_istore_n (L' := [(3, .int r2), (0, .ref (gm_am θ)), (1, .int x1), (2, .int x2)]) h (by decide) rfl dX7_relabel_5 ?_
  refine gx_iload_n h 0 rfl dX7_relabel_6 ?_
  refine gx_if_ge (tgt := 16) h (by decide) dX7_relabel_7 (fun c => ?_) (fun c => ?_)
  · replace k := k.1 c
    refine gx_aload_n h 1 rfl dX7_relabel_16 ?_
    refine gx_iload_n h 2 rfl dX7_relabel_17 ?_
    refine gx_iload_n h 3 rfl dX7_relabel_18 ?_
    refine gm_c_named h rfl ⟨Nat.le_of_ble_eq_true rfl, Nat.le_of_ble_eq_true rfl⟩ (Nat.le_of_ble_eq_true rfl) dX7_relabel_19 (gx_C.mono k ?_)
    rintro _ X19 ⟨r19, rfl, k⟩
    refine ⟨r19, rfl, ?_⟩
    refine gx_istore (L' := [(4, .int r19), (3, .int r2), (0, .ref (gm_am θ)), (1, .int x1), (2, .int x2)]) h (by decide) rfl dX7_relabel_22 ?_
    refine gx_iload h 0 rfl dX7_relabel_24 ?_
    refine gx_if_ge (tgt := 36) h (by decide) dX7_relabel_26 (fun c => ?_) (fun c => ?_)
    · replace k := k.1 c
      refine gx_aload_n h 2 rfl dX7_relabel_36 ?_
      refine gx_iload_n h 3 rfl dX7_relabel_37 ?_
      refine gx_bipush (v := 8) h dX7_relabel_38 (by decide) ?_
      refine gm_c_copyAll h rfl ⟨Nat.le_of_ble_eq_true rfl, Nat.le_of_ble_eq_true rfl⟩ (Nat.le_of_ble_eq_true rfl) dX7_relabel_40 (gx_C.mono k ?_)
      rintro _ X40 ⟨rfl, k⟩
      refine ⟨rfl, ?_⟩
      refine gx_aload_n h 2 rfl dX7_relabel_43 ?_
      refine gx_iload h 0 rfl dX7_relabel_44 ?_
      refine gx_iconst (v := 3) h dX7_relabel_46 (by decide) ?_
      refine gm_c_takes h rfl ⟨Nat.le_of_ble_eq_true rfl, Nat.le_of_ble_eq_true rfl⟩ (Nat.le_of_ble_eq_true rfl) dX7_relabel_47 (gx_C.mono k ?_)
      rintro _ X47 ⟨r47, rfl, k⟩
      refine ⟨r47, rfl, ?_⟩
      refine gx_if_ne (tgt := 60) h (by decide) dX7_relabel_50 (fun c => ?_) (fun c => ?_)
      · replace k := k.2 c
        refine gx_aload_n h 2 rfl dX7_relabel_60 ?_
        refine gx_iload_n h 3 rfl dX7_relabel_61 ?_
        refine gx_iload h 0 rfl dX7_relabel_62 ?_
        refine gm_c_parent h rfl ⟨Nat.le_of_ble_eq_true rfl, Nat.le_of_ble_eq_true rfl⟩ (Nat.le_of_ble_eq_true rfl) dX7_relabel_64 (gx_C.mono k ?_)
        rintro _ X64 ⟨r64, rfl, k⟩
        refine ⟨r64, rfl, ?_⟩
        refine gx_istore (L' := [(5, .int r64), (4, .int r19), (3, .int r2), (0, .ref (gm_am θ)), (1, .int x1), (2, .int x2)]) h (by decide) rfl dX7_relabel_67 ?_
        refine gx_iload h 0 rfl dX7_relabel_69 ?_
        refine gx_if_lt (tgt := 145) h (by decide) dX7_relabel_71 (fun c => ?_) (fun c => ?_)
        · replace k := k.1 c
          exact gx_sub [3, 4, 1] rfl k
        · replace k := k.2 c
          refine gx_aload_n h 3 rfl dX7_relabel_74 ?_
          refine gx_iload_n h 4 rfl dX7_relabel_75 ?_
          refine gx_iload h 0 rfl dX7_relabel_76 ?_
          refine gx_iconst (v := 1) h dX7_relabel_78 (by decide) ?_
          refine gm_c_of h rfl ⟨Nat.le_of_ble_eq_true rfl, Nat.le_of_ble_eq_true rfl⟩ (Nat.le_of_ble_eq_true rfl) dX7_relabel_79 (gx_C.mono k ?_)
          rintro _ X79 ⟨r79, rfl, k⟩
          refine ⟨r79, rfl, ?_⟩
          refine gx_iconst (v := 2) h dX7_relabel_82 (by decide) ?_
          refine gx_icmp_ne (tgt := 145) h (by decide) dX7_relabel_83 (fun c => ?_) (fun c => ?_)
          · replace k := k.2 c
            exact gx_sub [3, 4, 1] rfl k
          · replace k := k.1 c
            refine gx_iload h 0 rfl dX7_relabel_86 ?_
            refine gx_iconst (v := 1) h dX7_relabel_88 (by decide) ?_
            refine gx_iadd h dX7_relabel_89 ?_
            refine gx_istore (L' := [(6, .int (r64 + 1)), (5, .int r64), (4, .int r19), (3, .int r2), (0, .ref (gm_am θ)), (1, .int x1), (2, .int x2)]) h (by decide) rfl dX7_relabel_90 ?_
            exact gx_sub [4, 5, 2, 1, 0] rfl k
      · replace k := k.1 c
        refine gx_aload_n h 2 rfl dX7_relabel_53 ?_
        refine gx_bipush (v := (-3)) h dX7_relabel_54 (by decide) ?_
        refine gm_c_found0 h rfl ⟨Nat.le_of_ble_eq_true rfl, Nat.le_of_ble_eq_true rfl⟩ (Nat.le_of_ble_eq_true rfl) dX7_relabel_56 (gx_C.mono k ?_)
        rintro _ X56 ⟨r56, rfl, k⟩
        refine ⟨r56, rfl, ?_⟩
        exact gx_iret h rfl dX7_relabel_59 ⟨_, rfl, k⟩
    · replace k := k.2 c
      refine gx_aload_n h 2 rfl dX7_relabel_29 ?_
      refine gx_bipush (v := (-6)) h dX7_relabel_30 (by decide) ?_
      refine gm_c_found0 h rfl ⟨Nat.le_of_ble_eq_true rfl, Nat.le_of_ble_eq_true rfl⟩ (Nat.le_of_ble_eq_true rfl) dX7_relabel_32 (gx_C.mono k ?_)
      rintro _ X32 ⟨r32, rfl, k⟩
      refine ⟨r32, rfl, ?_⟩
      exact gx_iret h rfl dX7_relabel_35 ⟨_, rfl, k⟩
  · replace k := k.2 c
    refine gx_aload_n h 1 rfl dX7_relabel_10 ?_
    refine gx_iload_n h 0 rfl dX7_relabel_11 ?_
    refine gm_c_found0 h rfl ⟨Nat.le_of_ble_eq_true rfl, Nat.le_of_ble_eq_true rfl⟩ (Nat.le_of_ble_eq_true rfl) dX7_relabel_12 (gx_C.mono k ?_)
    rintro _ X12 ⟨r12, rfl, k⟩
    refine ⟨r12, rfl, ?_⟩
    exact gx_iret h rfl dX7_relabel_15 ⟨_, rfl, k⟩
theorem bm_relabel_92 {θ : gm_T} {K : gx_K} {P : Int32 → gm_X → Prop} {X : gm_X} {x1 x4 x5 x6 : Int32} (h : gm_K θ K mX7_relabel) (k : gx_C (gm_O θ) mX7_end [.ref (gm_am θ), .int x1, .int x5] X (gm_Pi (fun r98 X98 => ((r98 ≤ x6 → gm_G θ K mX7_relabel (gm_Pi P) 145 [(0, .ref (gm_am θ)), (1, .int x1), (4, .int x4)] [] X98) ∧ (¬ r98 ≤ x6 → ((x6 = x4 → gm_G θ K mX7_relabel (gm_Pi P) 133 [(0, .ref (gm_am θ)), (1, .int x1), (4, .int x4), (5, .int x5), (6, .int x6)] [] X98) ∧ (¬ x6 = x4 → gx_C (gm_O θ) mX7_isLike [.ref (gm_am θ), .int 8, .int x4, .int x1, .int x6, .int 3] X98 (gm_Pi (fun r120 X120 => ((r120 = 0 → gm_G θ K mX7_relabel (gm_Pi P) 133 [(0, .ref (gm_am θ)), (1, .int x1), (4, .int x4), (5, .int x5), (6, .int x6)] [] X120) ∧ (¬ r120 = 0 → gx_C (gm_O θ) mX7_found0 [.ref (gm_am θ), .int (-4)] X120 (gm_Pi (fun r129 X129 => P r129 X129))))))))))))) : gm_G θ K mX7_relabel (gm_Pi P) 92 [(0, .ref (gm_am θ)), (1, .int x1), (4, .int x4), (5, .int x5), (6, .int x6)] [] X := by
  refine gx_iload h 4 rfl dX7_relabel_92 ?_
  refine gx_aload_n h 0 rfl dX7_relabel_94 ?_
  refine gx_iload_n h 1 rfl dX7_relabel_95 ?_
  refine gx_iload h 3 rfl dX7_relabel_96 ?_
  refine gm_c_end h rfl ⟨Nat.le_of_ble_eq_true rfl, Nat.le_of_ble_eq_true rfl⟩ (Nat.le_of_ble_eq_true rfl) dX7_relabel_98 (gx_C.mono k ?_)
  rintro _ X98 ⟨r98, rfl, k⟩
  refine ⟨r98, rfl, ?_⟩
  refine gx_icmp_ge (tgt := 145) h (by decide) dX7_relabel_101 (fun c => ?_) (fun c => ?_)
  · replace k := k.1 c
    exact gx_sub [0, 1, 2] rfl k
  · replace k := k.2 c
    refine gx_iload h 4 rfl dX7_relabel_104 ?_
    refine gx_iload h 2 rfl dX7_relabel_106 ?_
    refine gx_icmp_eq (tgt := 133) h (by decide) dX7_relabel_108 (fun c => ?_) (fun c => ?_)
    · replace k := k.1 c
      exact k
    · replace k := k.2 c
      refine gx_aload_n h 0 rfl dX7_relabel_111 ?_
      refine gx_bipush (v := 8) h dX7_relabel_112 (by decide) ?_
      refine gx_iload h 2 rfl dX7_relabel_114 ?_
      refine gx_iload_n h 1 rfl dX7_relabel_116 ?_
      refine gx_iload h 4 rfl dX7_relabel_117 ?_
      refine gx_iconst (v := 3) h dX7_relabel_119 (by decide) ?_
      refine gm_c_isLike h rfl ⟨Nat.le_of_ble_eq_true rfl, Nat.le_of_ble_eq_true rfl⟩ (Nat.le_of_ble_eq_true rfl) dX7_relabel_120 (gx_C.mono k ?_)
      rintro _ X120 ⟨r120, rfl, k⟩
      refine ⟨r120, rfl, ?_⟩
      refine gx_if_eq (tgt := 133) h (by decide) dX7_relabel_123 (fun c => ?_) (fun c => ?_)
      · replace k := k.1 c
        exact k
      · replace k := k.2 c
        refine gx_aload_n h 0 rfl dX7_relabel_126 ?_
        refine gx_bipush (v := (-4)) h dX7_relabel_127 (by decide) ?_
        refine gm_c_found0 h rfl ⟨Nat.le_of_ble_eq_true rfl, Nat.le_of_ble_eq_true rfl⟩ (Nat.le_of_ble_eq_true rfl) dX7_relabel_129 (gx_C.mono k ?_)
        rintro _ X129 ⟨r129, rfl, k⟩
        refine ⟨r129, rfl, ?_⟩
        exact gx_iret h rfl dX7_relabel_132 ⟨_, rfl, k⟩
theorem bm_relabel_133 {θ : gm_T} {K : gx_K} {P : Int32 → gm_X → Prop} {X : gm_X} {x1 x4 x5 x6 : Int32} (h : gm_K θ K mX7_relabel) (k : gx_C (gm_O θ) mX7_end [.ref (gm_am θ), .int x1, .int x6] X (gm_Pi (fun r137 X137 => gm_G θ K mX7_relabel (gm_Pi P) 92 [(0, .ref (gm_am θ)), (1, .int x1), (4, .int x4), (5, .int x5), (6, .int r137)] [] X137))) : gm_G θ K mX7_relabel (gm_Pi P) 133 [(0, .ref (gm_am θ)), (1, .int x1), (4, .int x4), (5, .int x5), (6, .int x6)] [] X := by
  refine gx_aload_n h 0 rfl dX7_relabel_133 ?_
  refine gx_iload_n h 1 rfl dX7_relabel_134 ?_
  refine gx_iload h 4 rfl dX7_relabel_135 ?_
  refine gm_c_end h rfl ⟨Nat.le_of_ble_eq_true rfl, Nat.le_of_ble_eq_true rfl⟩ (Nat.le_of_ble_eq_true rfl) dX7_relabel_137 (gx_C.mono k ?_)
  rintro _ X137 ⟨r137, rfl, k⟩
  refine ⟨r137, rfl, ?_⟩
  refine gx_istore (L' := [(6, .int r137), (0, .ref (gm_am θ)), (1, .int x1), (4, .int x4), (5, .int x5)]) h (by decide) rfl dX7_relabel_140 ?_
  refine gx_goto (tgt := 92) h (by decide) dX7_relabel_142 ?_
  exact gx_sub [1, 2, 3, 4, 0] rfl k
theorem bm_relabel_145 {θ : gm_T} {K : gx_K} {P : Int32 → gm_X → Prop} {X : gm_X} {x1 x4 : Int32} (h : gm_K θ K mX7_relabel) (k : gx_C (gm_O θ) mX7_copyAll [.ref (gm_am θ), .int 8, .int x1] X (gm_Pv (fun X149 => gx_C (gm_O θ) mX7_of [.ref (gm_am θ), .int x1, .int x4, .int 3] X149 (gm_Pi (fun r157 X157 => P r157 X157))))) : gm_G θ K mX7_relabel (gm_Pi P) 145 [(0, .ref (gm_am θ)), (1, .int x1), (4, .int x4)] [] X := by
  refine gx_aload_n h 0 rfl dX7_relabel_145 ?_
  refine gx_bipush (v := 8) h dX7_relabel_146 (by decide) ?_
  refine gx_iload_n h 1 rfl dX7_relabel_148 ?_
  refine gm_c_copyAll h rfl ⟨Nat.le_of_ble_eq_true rfl, Nat.le_of_ble_eq_true rfl⟩ (Nat.le_of_ble_eq_true rfl) dX7_relabel_149 (gx_C.mono k ?_)
  rintro _ X149 ⟨rfl, k⟩
  refine ⟨rfl, ?_⟩
  refine gx_aload_n h 0 rfl dX7_relabel_152 ?_
  refine gx_iload_n h 1 rfl dX7_relabel_153 ?_
  refine gx_iload h 2 rfl dX7_relabel_154 ?_
  refine gx_iconst (v := 3) h dX7_relabel_156 (by decide) ?_
  refine gm_c_of h rfl ⟨Nat.le_of_ble_eq_true rfl, Nat.le_of_ble_eq_true rfl⟩ (Nat.le_of_ble_eq_true rfl) dX7_relabel_157 (gx_C.mono k ?_)
  rintro _ X157 ⟨r157, rfl, k⟩
  refine ⟨r157, rfl, ?_⟩
  exact gx_iret h rfl dX7_relabel_160 ⟨_, rfl, k⟩
/-! named -/
theorem em_named {θ : gm_T} {P : Int32 → gm_X → Prop} {X : gm_X} {x1 : Int32} {x2 : Int32} (body : ∀ K, gm_K θ K mX7_named → gm_G θ K mX7_named (gm_Pi P) 0 [(0, .ref (gm_am θ)), (1, .int x1), (2, .int x2)] [] X) : gx_C (gm_O θ) mX7_named [.ref (gm_am θ), .int x1, .int x2] X (gm_Pi P) :=
  gx_C.intro (gm_z θ) (by decide) (Nat.le_of_ble_eq_true rfl) body
theorem bm_named_0 {θ : gm_T} {K : gx_K} {P : Int32 → gm_X → Prop} {X : gm_X} {x1 x2 : Int32} (h : gm_K θ K mX7_named) (k : gm_G θ K mX7_named (gm_Pi P) 2 [(0, .ref (gm_am θ)), (1, .int x1), (2, .int x2), (3, .int 0)] [] X) : gm_G θ K mX7_named (gm_Pi P) 0 [(0, .ref (gm_am θ)), (1, .int x1), (2, .int x2)] [] X := by
  refine gx_iconst (v := 0) h dX7_named_0 (by decide) ?_
  refine gx_istore_n (L' := [(3, .int 0), (0, .ref (gm_am θ)), (1, .int x1), (2, .int x2)]) h (by decide) rfl dX7_named_1 ?_
  exact gx_sub [1, 2, 3, 0] rfl k
theorem bm_named_2 {θ : gm_T} {K : gx_K} {P : Int32 → gm_X → Prop} {X : gm_X} {x1 x2 x3 : Int32} (h : gm_K θ K mX7_named) (k : vp_in x1 11 ∧ (((X.2 1 x1.toNatClampNeg) ≤ x3 → P (-1) X) ∧ (¬ (X.2 1 x1.toNatClampNeg) ≤ x3 → gx_C (gm_O θ) mX7_of [.ref (gm_am θ), .int x1, .int x3, .int 0] X (gm_Pi (fun r16 X16 => ((r16 = x2 → P x3 X16) ∧ (¬ r16 = x2 → gm_G θ K mX7_named (gm_Pi P) 2 [(0, .ref (gm_am θ)), (1, .int x1), (2, .int x2), (3, .int (x3 + 1))] [] X16))))))) : gm_G θ K mX7_named (gm_Pi P) 2 [(0, .ref (gm_am θ)), (1, .int x1), (2, .int x2), (3, .int x3)] [] X := by
  refine gx_iload_n h 3 rfl dX7_named_2 ?_
  refine gx_aload_n h 0 rfl dX7_named_3 ?_
  refine gm_get1 h rfl dX7_named_4 ?_
  refine gx_iload_n h 1 rfl dX7_named_7 ?_
  refine gm_ld1 h k.1 dX7_named_8 ?_
  replace k := k.2
  refine gx_icmp_ge (tgt := 31) h (by decide) dX7_named_9 (fun c => ?_) (fun c => ?_)
  · replace k := k.1 c
    refine gx_iconst (v := (-1)) h dX7_named_31 (by decide) ?_
    exact gx_iret h rfl dX7_named_32 ⟨_, rfl, k⟩
  · replace k := k.2 c
    refine gx_aload_n h 0 rfl dX7_named_12 ?_
    refine gx_iload_n h 1 rfl dX7_named_13 ?_
    refine gx_iload_n h 3 rfl dX7_named_14 ?_
    refine gx_iconst (v := 0) h dX7_named_15 (by decide) ?_
    refine gm_c_of h rfl ⟨Nat.le_of_ble_eq_true rfl, Nat.le_of_ble_eq_true rfl⟩ (Nat.le_of_ble_eq_true rfl) dX7_named_16 (gx_C.mono k ?_)
    rintro _ X16 ⟨r16, rfl, k⟩
    refine ⟨r16, rfl, ?_⟩
    refine gx_iload_n h 2 rfl dX7_named_19 ?_
    refine gx_icmp_ne (tgt := 25) h (by decide) dX7_named_20 (fun c => ?_) (fun c => ?_)
    · replace k := k.2 c
      refine gx_iinc (v := x3 + 1) (L' := [(3, .int (x3 + 1)), (0, .ref (gm_am θ)), (1, .int x1), (2, .int x2)]) h 3 rfl rfl (by decide) rfl dX7_named_25 ?_
      refine gx_goto (tgt := 2) h (by decide) dX7_named_28 ?_
      exact gx_sub [1, 2, 3, 0] rfl k
    · replace k := k.1 c
      refine gx_iload_n h 3 rfl dX7_named_23 ?_
      exact gx_iret h rfl dX7_named_24 ⟨_, rfl, k⟩
/-! takes -/
theorem em_takes {θ : gm_T} {P : Int32 → gm_X → Prop} {X : gm_X} {x1 : Int32} {x2 : Int32} (body : ∀ K, gm_K θ K mX7_takes → gm_G θ K mX7_takes (gm_Pi P) 0 [(0, .ref (gm_am θ)), (1, .int x1), (2, .int x2)] [] X) : gx_C (gm_O θ) mX7_takes [.ref (gm_am θ), .int x1, .int x2] X (gm_Pi P) :=
  gx_C.intro (gm_z θ) (by decide) (Nat.le_of_ble_eq_true rfl) body
theorem bm_takes_0 {θ : gm_T} {K : gx_K} {P : Int32 → gm_X → Prop} {X : gm_X} {x1 x2 : Int32} (h : gm_K θ K mX7_takes) (k : ∀ X7, X7 = gm_pI X 4 0 → ((x2 = 3 → gm_G θ K mX7_takes (gm_Pi P) 23 [(0, .ref (gm_am θ)), (1, .int x1), (2, .int x2), (3, .int (X.1 4))] [.int 6, .int (X.1 4)] X7) ∧ (¬ x2 = 3 → gm_G θ K mX7_takes (gm_Pi P) 23 [(0, .ref (gm_am θ)), (1, .int x1), (2, .int x2), (3, .int (X.1 4))] [.int 8, .int (X.1 4)] X7))) : gm_G θ K mX7_takes (gm_Pi P) 0 [(0, .ref (gm_am θ)), (1, .int x1), (2, .int x2)] [] X := by
  refine gx_aload_n h 0 rfl dX7_takes_0 ?_
  refine gm_get4 h rfl dX7_takes_1 ?_
  refine gx_istore_n (L' := [(3, .int (X.1 4)), (0, .ref (gm_am θ)), (1, .int x1), (2, .int x2)]) h (by decide) rfl dX7_takes_4 ?_
  refine gx_aload_n h 1 rfl dX7_takes_5 ?_
  refine gx_iconst (v := 0) h dX7_takes_6 (by decide) ?_
  refine gm_put4 h rfl dX7_takes_7 ?_
  generalize hz : gm_pI X 4 0 = X7
  replace k := k X7 hz.symm
  refine gx_iload_n h 0 rfl dX7_takes_10 ?_
  refine gx_iload_n h 3 rfl dX7_takes_11 ?_
  refine gx_iconst (v := 3) h dX7_takes_12 (by decide) ?_
  refine gx_icmp_ne (tgt := 21) h (by decide) dX7_takes_13 (fun c => ?_) (fun c => ?_)
  · replace k := k.2 c
    refine gx_bipush (v := 8) h dX7_takes_21 (by decide) ?_
    exact gx_sub [1, 2, 3, 0] rfl k
  · replace k := k.1 c
    refine gx_bipush (v := 6) h dX7_takes_16 (by decide) ?_
    refine gx_goto (tgt := 23) h (by decide) dX7_takes_18 ?_
    exact gx_sub [1, 2, 3, 0] rfl k
theorem bm_takes_23 {θ : gm_T} {K : gx_K} {P : Int32 → gm_X → Prop} {X : gm_X} {x1 x2 x3 s0 s1 : Int32} (h : gm_K θ K mX7_takes) (k : ((s0 < s1 → gm_G θ K mX7_takes (gm_Pi P) 35 [] [] X) ∧ (¬ s0 < s1 → ((x2 = 3 → ((x3 = 0 → gm_G θ K mX7_takes (gm_Pi P) 35 [] [] X) ∧ (¬ x3 = 0 → gm_G θ K mX7_takes (gm_Pi P) 37 [(0, .ref (gm_am θ)), (1, .int x1), (2, .int x2), (3, .int x3)] [] X))) ∧ (¬ x2 = 3 → gm_G θ K mX7_takes (gm_Pi P) 37 [(0, .ref (gm_am θ)), (1, .int x1), (2, .int x2), (3, .int x3)] [] X))))) : gm_G θ K mX7_takes (gm_Pi P) 23 [(0, .ref (gm_am θ)), (1, .int x1), (2, .int x2), (3, .int x3)] [.int s0, .int s1] X := by
  refine gx_icmp_gt (tgt := 35) h (by decide) dX7_takes_23 (fun c => ?_) (fun c => ?_)
  · replace k := k.1 c
    exact gx_sub [] rfl k
  · replace k := k.2 c
    refine gx_iload_n h 2 rfl dX7_takes_26 ?_
    refine gx_iconst (v := 3) h dX7_takes_27 (by decide) ?_
    refine gx_icmp_ne (tgt := 37) h (by decide) dX7_takes_28 (fun c => ?_) (fun c => ?_)
    · replace k := k.2 c
      exact k
    · replace k := k.1 c
      refine gx_iload_n h 3 rfl dX7_takes_31 ?_
      refine gx_if_ne (tgt := 37) h (by decide) dX7_takes_32 (fun c => ?_) (fun c => ?_)
      · replace k := k.2 c
        exact k
      · replace k := k.1 c
        exact gx_sub [] rfl k
theorem bm_takes_35 {θ : gm_T} {K : gx_K} {P : Int32 → gm_X → Prop} {X : gm_X} (h : gm_K θ K mX7_takes) (k : P 0 X) : gm_G θ K mX7_takes (gm_Pi P) 35 [] [] X := by
  refine gx_iconst (v := 0) h dX7_takes_35 (by decide) ?_
  exact gx_zret h rfl rfl dX7_takes_36 ⟨_, rfl, k⟩
theorem bm_takes_37 {θ : gm_T} {K : gx_K} {P : Int32 → gm_X → Prop} {X : gm_X} {x1 x2 x3 : Int32} (h : gm_K θ K mX7_takes) (k : gm_G θ K mX7_takes (gm_Pi P) 40 [(0, .ref (gm_am θ)), (1, .int x1), (2, .int x2), (3, .int x3), (4, .int 0)] [] X) : gm_G θ K mX7_takes (gm_Pi P) 37 [(0, .ref (gm_am θ)), (1, .int x1), (2, .int x2), (3, .int x3)] [] X := by
  refine gx_iconst (v := 0) h dX7_takes_37 (by decide) ?_
  refine gx_istore (L' := [(4, .int 0), (0, .ref (gm_am θ)), (1, .int x1), (2, .int x2), (3, .int x3)]) h (by decide) rfl dX7_takes_38 ?_
  exact gx_sub [1, 2, 3, 4, 0] rfl k
theorem bm_takes_40 {θ : gm_T} {K : gx_K} {P : Int32 → gm_X → Prop} {X : gm_X} {x1 x2 x3 x4 : Int32} (h : gm_K θ K mX7_takes) (k : ((x3 ≤ x4 → gx_C (gm_O θ) mX7_set [.ref (gm_am θ), .int 8, .int x1, .int x2, .int x3] X (gm_Pv (fun X114 => P 1 X114))) ∧ (¬ x3 ≤ x4 → ((x2 = 3 → vp_in x4 400 ∧ gx_C (gm_O θ) mX7_isLetter [.int (X.2 3 x4.toNatClampNeg)] X (gm_Pi (fun r58 X58 => ((r58 = 0 → gm_G θ K mX7_takes (gm_Pi P) 80 [] [] X58) ∧ (¬ r58 = 0 → gm_G θ K mX7_takes (gm_Pi P) 82 [(0, .ref (gm_am θ)), (1, .int x1), (2, .int x2), (3, .int x3), (4, .int x4)] [] X58))))) ∧ (¬ x2 = 3 → vp_in x4 400 ∧ gx_C (gm_O θ) mX7_isSign [.int (X.2 3 x4.toNatClampNeg)] X (gm_Pi (fun r74 X74 => ((r74 = 0 → gm_G θ K mX7_takes (gm_Pi P) 80 [] [] X74) ∧ (¬ r74 = 0 → gm_G θ K mX7_takes (gm_Pi P) 82 [(0, .ref (gm_am θ)), (1, .int x1), (2, .int x2), (3, .int x3), (4, .int x4)] [] X74))))))))) : gm_G θ K mX7_takes (gm_Pi P) 40 [(0, .ref (gm_am θ)), (1, .int x1), (2, .int x2), (3, .int x3), (4, .int x4)] [] X := by
  refine gx_iload h 4 rfl dX7_takes_40 ?_
  refine gx_iload_n h 3 rfl dX7_takes_42 ?_
  refine gx_icmp_ge (tgt := 108) h (by decide) dX7_takes_43 (fun c => ?_) (fun c => ?_)
  · replace k := k.1 c
    refine gx_aload_n h 0 rfl dX7_takes_108 ?_
    refine gx_bipush (v := 8) h dX7_takes_109 (by decide) ?_
    refine gx_iload_n h 1 rfl dX7_takes_111 ?_
    refine gx_iload_n h 2 rfl dX7_takes_112 ?_
    refine gx_iload_n h 3 rfl dX7_takes_113 ?_
    refine gm_c_set h rfl ⟨Nat.le_of_ble_eq_true rfl, Nat.le_of_ble_eq_true rfl⟩ (Nat.le_of_ble_eq_true rfl) dX7_takes_114 (gx_C.mono k ?_)
    rintro _ X114 ⟨rfl, k⟩
    refine ⟨rfl, ?_⟩
    refine gx_iconst (v := 1) h dX7_takes_117 (by decide) ?_
    exact gx_zret h rfl rfl dX7_takes_118 ⟨_, rfl, k⟩
  · replace k := k.2 c
    refine gx_iload_n h 2 rfl dX7_takes_46 ?_
    refine gx_iconst (v := 3) h dX7_takes_47 (by decide) ?_
    refine gx_icmp_ne (tgt := 67) h (by decide) dX7_takes_48 (fun c => ?_) (fun c => ?_)
    · replace k := k.2 c
      refine gx_aload_n h 0 rfl dX7_takes_67 ?_
      refine gm_get3 h rfl dX7_takes_68 ?_
      refine gx_iload h 4 rfl dX7_takes_71 ?_
      refine gm_ld3 h k.1 dX7_takes_73 ?_
      replace k := k.2
      refine gm_c_isSign h rfl ⟨Nat.le_of_ble_eq_true rfl, Nat.le_of_ble_eq_true rfl⟩ (Nat.le_of_ble_eq_true rfl) dX7_takes_74 (gx_C.mono k ?_)
      rintro _ X74 ⟨r74, rfl, k⟩
      refine ⟨r74, rfl, ?_⟩
      refine gx_if_ne (tgt := 82) h (by decide) dX7_takes_77 (fun c => ?_) (fun c => ?_)
      · replace k := k.2 c
        exact k
      · replace k := k.1 c
        exact gx_sub [] rfl k
    · replace k := k.1 c
      refine gx_aload_n h 0 rfl dX7_takes_51 ?_
      refine gm_get3 h rfl dX7_takes_52 ?_
      refine gx_iload h 4 rfl dX7_takes_55 ?_
      refine gm_ld3 h k.1 dX7_takes_57 ?_
      replace k := k.2
      refine gm_c_isLetter h rfl ⟨Nat.le_of_ble_eq_true rfl, Nat.le_of_ble_eq_true rfl⟩ (Nat.le_of_ble_eq_true rfl) dX7_takes_58 (gx_C.mono k ?_)
      rintro _ X58 ⟨r58, rfl, k⟩
      refine ⟨r58, rfl, ?_⟩
      refine gx_if_ne (tgt := 82) h (by decide) dX7_takes_61 (fun c => ?_) (fun c => ?_)
      · replace k := k.2 c
        exact k
      · replace k := k.1 c
        refine gx_goto (tgt := 80) h (by decide) dX7_takes_64 ?_
        exact gx_sub [] rfl k
theorem bm_takes_80 {θ : gm_T} {K : gx_K} {P : Int32 → gm_X → Prop} {X : gm_X} (h : gm_K θ K mX7_takes) (k : P 0 X) : gm_G θ K mX7_takes (gm_Pi P) 80 [] [] X := by
  refine gx_iconst (v := 0) h dX7_takes_80 (by decide) ?_
  exact gx_zret h rfl rfl dX7_takes_81 ⟨_, rfl, k⟩
theorem bm_takes_82 {θ : gm_T} {K : gx_K} {P : Int32 → gm_X → Prop} {X : gm_X} {x1 x2 x3 x4 : Int32} (h : gm_K θ K mX7_takes) (k : vp_in x4 400 ∧ gx_C (gm_O θ) mX7_set [.ref (gm_am θ), .int 8, .int x1, .int ((x2 + 1) + x4), .int (X.2 3 x4.toNatClampNeg)] X (gm_Pv (fun X99 => gm_G θ K mX7_takes (gm_Pi P) 40 [(0, .ref (gm_am θ)), (1, .int x1), (2, .int x2), (3, .int x3), (4, .int (x4 + 1))] [] X99))) : gm_G θ K mX7_takes (gm_Pi P) 82 [(0, .ref (gm_am θ)), (1, .int x1), (2, .int x2), (3, .int x3), (4, .int x4)] [] X := by
  refine gx_aload_n h 0 rfl dX7_takes_82 ?_
  refine gx_bipush (v := 8) h dX7_takes_83 (by decide) ?_
  refine gx_iload_n h 1 rfl dX7_takes_85 ?_
  refine gx_iload_n h 2 rfl dX7_takes_86 ?_
  refine gx_iconst (v := 1) h dX7_takes_87 (by decide) ?_
  refine gx_iadd h dX7_takes_88 ?_
  refine gx_iload h 4 rfl dX7_takes_89 ?_
  refine gx_iadd h dX7_takes_91 ?_
  refine gx_aload_n h 0 rfl dX7_takes_92 ?_
  refine gm_get3 h rfl dX7_takes_93 ?_
  refine gx_iload h 4 rfl dX7_takes_96 ?_
  refine gm_ld3 h k.1 dX7_takes_98 ?_
  replace k := k.2
  refine gm_c_set h rfl ⟨Nat.le_of_ble_eq_true rfl, Nat.le_of_ble_eq_true rfl⟩ (Nat.le_of_ble_eq_true rfl) dX7_takes_99 (gx_C.mono k ?_)
  rintro _ X99 ⟨rfl, k⟩
  refine ⟨rfl, ?_⟩
  refine gx_iinc (v := x4 + 1) (L' := [(4, .int (x4 + 1)), (0, .ref (gm_am θ)), (1, .int x1), (2, .int x2), (3, .int x3)]) h 4 rfl rfl (by decide) rfl dX7_takes_102 ?_
  refine gx_goto (tgt := 40) h (by decide) dX7_takes_105 ?_
  exact gx_sub [1, 2, 3, 4, 0] rfl k
/-! retext -/
theorem em_retext {θ : gm_T} {P : Int32 → gm_X → Prop} {X : gm_X} {x1 : Int32} {x2 : Int32} (body : ∀ K, gm_K θ K mX7_retext → gm_G θ K mX7_retext (gm_Pi P) 0 [(0, .ref (gm_am θ)), (1, .int x1), (2, .int x2)] [] X) : gx_C (gm_O θ) mX7_retext [.ref (gm_am θ), .int x1, .int x2] X (gm_Pi P) :=
  gx_C.intro (gm_z θ) (by decide) (Nat.le_of_ble_eq_true rfl) body
theorem bm_retext_0 {θ : gm_T} {K : gx_K} {P : Int32 → gm_X → Prop} {X : gm_X} {x1 x2 : Int32} (h : gm_K θ K mX7_retext) (k : gx_C (gm_O θ) mX7_lacks [.ref (gm_am θ), .int x1] X (gm_Pi (fun r2 X2 => ((0 ≤ r2 → gx_C (gm_O θ) mX7_named [.ref (gm_am θ), .int x1, .int x2] X2 (gm_Pi (fun r19 X19 => ((0 ≤ r19 → gx_C (gm_O θ) mX7_copyAll [.ref (gm_am θ), .int x1, .int 8] X19 (gm_Pv (fun X40 => gx_C (gm_O θ) mX7_takes [.ref (gm_am θ), .int r19, .int 10] X40 (gm_Pi (fun r48 X48 => ((r48 = 0 → gx_C (gm_O θ) mX7_found0 [.ref (gm_am θ), .int (-3)] X48 (gm_Pi (fun r57 X57 => P r57 X57))) ∧ (¬ r48 = 0 → gx_C (gm_O θ) mX7_copyAll [.ref (gm_am θ), .int 8, .int x1] X48 (gm_Pv (fun X65 => gx_C (gm_O θ) mX7_of [.ref (gm_am θ), .int x1, .int r19, .int 10] X65 (gm_Pi (fun r74 X74 => P r74 X74))))))))))) ∧ (¬ 0 ≤ r19 → gx_C (gm_O θ) mX7_found0 [.ref (gm_am θ), .int (-6)] X19 (gm_Pi (fun r32 X32 => P r32 X32))))))) ∧ (¬ 0 ≤ r2 → gx_C (gm_O θ) mX7_found0 [.ref (gm_am θ), .int r2] X2 (gm_Pi (fun r12 X12 => P r12 X12))))))) : gm_G θ K mX7_retext (gm_Pi P) 0 [(0, .ref (gm_am θ)), (1, .int x1), (2, .int x2)] [] X := by
  refine gx_aload_n h 0 rfl dX7_retext_0 ?_
  refine gx_iload_n h 1 rfl dX7_retext_1 ?_
  refine gm_c_lacks h rfl ⟨Nat.le_of_ble_eq_true rfl, Nat.le_of_ble_eq_true rfl⟩ (Nat.le_of_ble_eq_true rfl) dX7_retext_2 (gx_C.mono k ?_)
  rintro _ X2 ⟨r2, rfl, k⟩
  refine ⟨r2, rfl, ?_⟩
  refine gx_istore_n (L' := [(3, .int r2), (0, .ref (gm_am θ)), (1, .int x1), (2, .int x2)]) h (by decide) rfl dX7_retext_5 ?_
  refine gx_iload_n h 0 rfl dX7_retext_6 ?_
  refine gx_if_ge (tgt := 16) h (by decide) dX7_retext_7 (fun c => ?_) (fun c => ?_)
  · replace k := k.1 c
    refine gx_aload_n h 1 rfl dX7_retext_16 ?_
    refine gx_iload_n h 2 rfl dX7_retext_17 ?_
    refine gx_iload_n h 3 rfl dX7_retext_18 ?_
    refine gm_c_named h rfl ⟨Nat.le_of_ble_eq_true rfl, Nat.le_of_ble_eq_true rfl⟩ (Nat.le_of_ble_eq_true rfl) dX7_retext_19 (gx_C.mono k ?_)
    rintro _ X19 ⟨r19, rfl, k⟩
    refine ⟨r19, rfl, ?_⟩
    refine gx_istore (L' := [(4, .int r19), (3, .int r2), (0, .ref (gm_am θ)), (1, .int x1), (2, .int x2)]) h (by decide) rfl dX7_retext_22 ?_
    refine gx_iload h 0 rfl dX7_retext_24 ?_
    refine gx_if_ge (tgt := 36) h (by decide) dX7_retext_26 (fun c => ?_) (fun c => ?_)
    · replace k := k.1 c
      refine gx_aload_n h 2 rfl dX7_retext_36 ?_
      refine gx_iload_n h 3 rfl dX7_retext_37 ?_
      refine gx_bipush (v := 8) h dX7_retext_38 (by decide) ?_
      refine gm_c_copyAll h rfl ⟨Nat.le_of_ble_eq_true rfl, Nat.le_of_ble_eq_true rfl⟩ (Nat.le_of_ble_eq_true rfl) dX7_retext_40 (gx_C.mono k ?_)
      rintro _ X40 ⟨rfl, k⟩
      refine ⟨rfl, ?_⟩
      refine gx_aload_n h 2 rfl dX7_retext_43 ?_
      refine gx_iload h 0 rfl dX7_retext_44 ?_
      refine gx_bipush (v := 10) h dX7_retext_46 (by decide) ?_
      refine gm_c_takes h rfl ⟨Nat.le_of_ble_eq_true rfl, Nat.le_of_ble_eq_true rfl⟩ (Nat.le_of_ble_eq_true rfl) dX7_retext_48 (gx_C.mono k ?_)
      rintro _ X48 ⟨r48, rfl, k⟩
      refine ⟨r48, rfl, ?_⟩
      refine gx_if_ne (tgt := 61) h (by decide) dX7_retext_51 (fun c => ?_) (fun c => ?_)
      · replace k := k.2 c
        refine gx_aload_n h 2 rfl dX7_retext_61 ?_
        refine gx_bipush (v := 8) h dX7_retext_62 (by decide) ?_
        refine gx_iload_n h 3 rfl dX7_retext_64 ?_
        refine gm_c_copyAll h rfl ⟨Nat.le_of_ble_eq_true rfl, Nat.le_of_ble_eq_true rfl⟩ (Nat.le_of_ble_eq_true rfl) dX7_retext_65 (gx_C.mono k ?_)
        rintro _ X65 ⟨rfl, k⟩
        refine ⟨rfl, ?_⟩
        refine gx_aload_n h 2 rfl dX7_retext_68 ?_
        refine gx_iload_n h 3 rfl dX7_retext_69 ?_
        refine gx_iload h 0 rfl dX7_retext_70 ?_
        refine gx_bipush (v := 10) h dX7_retext_72 (by decide) ?_
        refine gm_c_of h rfl ⟨Nat.le_of_ble_eq_true rfl, Nat.le_of_ble_eq_true rfl⟩ (Nat.le_of_ble_eq_true rfl) dX7_retext_74 (gx_C.mono k ?_)
        rintro _ X74 ⟨r74, rfl, k⟩
        refine ⟨r74, rfl, ?_⟩
        exact gx_iret h rfl dX7_retext_77 ⟨_, rfl, k⟩
      · replace k := k.1 c
        refine gx_aload_n h 2 rfl dX7_retext_54 ?_
        refine gx_bipush (v := (-3)) h dX7_retext_55 (by decide) ?_
        refine gm_c_found0 h rfl ⟨Nat.le_of_ble_eq_true rfl, Nat.le_of_ble_eq_true rfl⟩ (Nat.le_of_ble_eq_true rfl) dX7_retext_57 (gx_C.mono k ?_)
        rintro _ X57 ⟨r57, rfl, k⟩
        refine ⟨r57, rfl, ?_⟩
        exact gx_iret h rfl dX7_retext_60 ⟨_, rfl, k⟩
    · replace k := k.2 c
      refine gx_aload_n h 2 rfl dX7_retext_29 ?_
      refine gx_bipush (v := (-6)) h dX7_retext_30 (by decide) ?_
      refine gm_c_found0 h rfl ⟨Nat.le_of_ble_eq_true rfl, Nat.le_of_ble_eq_true rfl⟩ (Nat.le_of_ble_eq_true rfl) dX7_retext_32 (gx_C.mono k ?_)
      rintro _ X32 ⟨r32, rfl, k⟩
      refine ⟨r32, rfl, ?_⟩
      exact gx_iret h rfl dX7_retext_35 ⟨_, rfl, k⟩
  · replace k := k.2 c
    refine gx_aload_n h 1 rfl dX7_retext_10 ?_
    refine gx_iload_n h 0 rfl dX7_retext_11 ?_
    refine gm_c_found0 h rfl ⟨Nat.le_of_ble_eq_true rfl, Nat.le_of_ble_eq_true rfl⟩ (Nat.le_of_ble_eq_true rfl) dX7_retext_12 (gx_C.mono k ?_)
    rintro _ X12 ⟨r12, rfl, k⟩
    refine ⟨r12, rfl, ?_⟩
    exact gx_iret h rfl dX7_retext_15 ⟨_, rfl, k⟩
/-! put -/
theorem em_put {θ : gm_T} {P : Int32 → gm_X → Prop} {X : gm_X} {x1 : Int32} {x2 : Int32} {x3 : Int32} {x4 : Int32} {x5 : Int32} (body : ∀ K, gm_K θ K mX7_put → gm_G θ K mX7_put (gm_Pi P) 0 [(0, .ref (gm_am θ)), (1, .int x1), (2, .int x2), (3, .int x3), (4, .int x4), (5, .int x5)] [] X) : gx_C (gm_O θ) mX7_put [.ref (gm_am θ), .int x1, .int x2, .int x3, .int x4, .int x5] X (gm_Pi P) :=
  gx_C.intro (gm_z θ) (by decide) (Nat.le_of_ble_eq_true rfl) body
theorem bm_put_0 {θ : gm_T} {K : gx_K} {P : Int32 → gm_X → Prop} {X : gm_X} {x1 x2 x3 x4 x5 : Int32} (h : gm_K θ K mX7_put) (k : gx_C (gm_O θ) mX7_lacks [.ref (gm_am θ), .int x1] X (gm_Pi (fun r2 X2 => ((0 ≤ r2 → gx_C (gm_O θ) mX7_named [.ref (gm_am θ), .int x1, .int x2] X2 (gm_Pi (fun r22 X22 => ((0 ≤ r22 → vp_in 8 11 ∧ ∀ X46, X46 = gm_pA X22 1 (8 : Int32).toNatClampNeg 0 → gx_C (gm_O θ) mX7_takes [.ref (gm_am θ), .int 0, .int 3] X46 (gm_Pi (fun r50 X50 => gx_C (gm_O θ) mX7_in [.int x3, .int 0, .int 2] X50 (gm_Pi (fun r58 X58 => ((r58 = 0 → gm_G θ K mX7_put (gm_Pi P) 81 [(0, .ref (gm_am θ))] [] X58) ∧ (¬ r58 = 0 → gx_C (gm_O θ) mX7_of [.ref (gm_am θ), .int x1, .int r22, .int 1] X58 (gm_Pi (fun r69 X69 => ((r69 = 3 → gm_G θ K mX7_put (gm_Pi P) 81 [(0, .ref (gm_am θ))] [] X69) ∧ (¬ r69 = 3 → ((r50 = 0 → gm_G θ K mX7_put (gm_Pi P) 81 [(0, .ref (gm_am θ))] [] X69) ∧ (¬ r50 = 0 → ((x4 < 0 → gm_G θ K mX7_put (gm_Pi P) 117 [(0, .ref (gm_am θ))] [] X69) ∧ (¬ x4 < 0 → ((x5 < 0 → gm_G θ K mX7_put (gm_Pi P) 117 [(0, .ref (gm_am θ))] [] X69) ∧ (¬ x5 < 0 → gx_C (gm_O θ) mX7_children [.ref (gm_am θ), .int x1, .int r22] X69 (gm_Pi (fun r109 X109 => (((lg_cmp (x4.toInt64 + x5.toInt64) r109.toInt64) ≤ 0 → vp_in x1 11 ∧ (((X109.2 1 x1.toNatClampNeg) = 30 → gx_C (gm_O θ) mX7_found0 [.ref (gm_am θ), .int (-5)] X109 (gm_Pi (fun r137 X137 => P r137 X137))) ∧ (¬ (X109.2 1 x1.toNatClampNeg) = 30 → gx_C (gm_O θ) mX7_child [.ref (gm_am θ), .int x1, .int r22, .int x4] X109 (gm_Pi (fun r147 X147 => gm_G θ K mX7_put (gm_Pi P) 159 [(0, .ref (gm_am θ)), (1, .int x1), (3, .int x3), (5, .int x5), (7, .int r22), (9, .int r147), (10, .int r147), (11, .int 0)] [] X147))))) ∧ (¬ (lg_cmp (x4.toInt64 + x5.toInt64) r109.toInt64) ≤ 0 → gm_G θ K mX7_put (gm_Pi P) 117 [(0, .ref (gm_am θ))] [] X109))))))))))))))))))))) ∧ (¬ 0 ≤ r22 → gx_C (gm_O θ) mX7_found0 [.ref (gm_am θ), .int (-6)] X22 (gm_Pi (fun r35 X35 => P r35 X35))))))) ∧ (¬ 0 ≤ r2 → gx_C (gm_O θ) mX7_found0 [.ref (gm_am θ), .int r2] X2 (gm_Pi (fun r15 X15 => P r15 X15))))))) : gm_G θ K mX7_put (gm_Pi P) 0 [(0, .ref (gm_am θ)), (1, .int x1), (2, .int x2), (3, .int x3), (4, .int x4), (5, .int x5)] [] X := by
  refine gx_aload_n h 0 rfl dX7_put_0 ?_
  refine gx_iload_n h 1 rfl dX7_put_1 ?_
  refine gm_c_lacks h rfl ⟨Nat.le_of_ble_eq_true rfl, Nat.le_of_ble_eq_true rfl⟩ (Nat.le_of_ble_eq_true rfl) dX7_put_2 (gx_C.mono k ?_)
  rintro _ X2 ⟨r2, rfl, k⟩
  refine ⟨r2, rfl, ?_⟩
  refine gx_istore (L' := [(6, .int r2), (0, .ref (gm_am θ)), (1, .int x1), (2, .int x2), (3, .int x3), (4, .int x4), (5, .int x5)]) h (by decide) rfl dX7_put_5 ?_
  refine gx_iload h 0 rfl dX7_put_7 ?_
  refine gx_if_ge (tgt := 19) h (by decide) dX7_put_9 (fun c => ?_) (fun c => ?_)
  · replace k := k.1 c
    refine gx_aload_n h 1 rfl dX7_put_19 ?_
    refine gx_iload_n h 2 rfl dX7_put_20 ?_
    refine gx_iload_n h 3 rfl dX7_put_21 ?_
    refine gm_c_named h rfl ⟨Nat.le_of_ble_eq_true rfl, Nat.le_of_ble_eq_true rfl⟩ (Nat.le_of_ble_eq_true rfl) dX7_put_22 (gx_C.mono k ?_)
    rintro _ X22 ⟨r22, rfl, k⟩
    refine ⟨r22, rfl, ?_⟩
    refine gx_istore (L' := [(7, .int r22), (6, .int r2), (0, .ref (gm_am θ)), (1, .int x1), (2, .int x2), (3, .int x3), (4, .int x4), (5, .int x5)]) h (by decide) rfl dX7_put_25 ?_
    refine gx_iload h 0 rfl dX7_put_27 ?_
    refine gx_if_ge (tgt := 39) h (by decide) dX7_put_29 (fun c => ?_) (fun c => ?_)
    · replace k := k.1 c
      refine gx_aload_n h 2 rfl dX7_put_39 ?_
      refine gm_get1 h rfl dX7_put_40 ?_
      refine gx_bipush (v := 8) h dX7_put_43 (by decide) ?_
      refine gx_iconst (v := 0) h dX7_put_45 (by decide) ?_
      refine gm_st1 h k.1 dX7_put_46 ?_
      generalize hz : gm_pA X22 1 (8 : Int32).toNatClampNeg 0 = X46
      replace k := k.2 X46 hz.symm
      refine gx_aload_n h 2 rfl dX7_put_47 ?_
      refine gx_iconst (v := 0) h dX7_put_48 (by decide) ?_
      refine gx_iconst (v := 3) h dX7_put_49 (by decide) ?_
      refine gm_c_takes h rfl ⟨Nat.le_of_ble_eq_true rfl, Nat.le_of_ble_eq_true rfl⟩ (Nat.le_of_ble_eq_true rfl) dX7_put_50 (gx_C.mono k ?_)
      rintro _ X50 ⟨r50, rfl, k⟩
      refine ⟨r50, rfl, ?_⟩
      refine gx_istore (L' := [(8, .int r50), (7, .int r22), (6, .int r2), (0, .ref (gm_am θ)), (1, .int x1), (2, .int x2), (3, .int x3), (4, .int x4), (5, .int x5)]) h (by decide) rfl dX7_put_53 ?_
      refine gx_iload_n h 6 rfl dX7_put_55 ?_
      refine gx_iconst (v := 0) h dX7_put_56 (by decide) ?_
      refine gx_iconst (v := 2) h dX7_put_57 (by decide) ?_
      refine gm_c_in h rfl ⟨Nat.le_of_ble_eq_true rfl, Nat.le_of_ble_eq_true rfl⟩ (Nat.le_of_ble_eq_true rfl) dX7_put_58 (gx_C.mono k ?_)
      rintro _ X58 ⟨r58, rfl, k⟩
      refine ⟨r58, rfl, ?_⟩
      refine gx_if_eq (tgt := 81) h (by decide) dX7_put_61 (fun c => ?_) (fun c => ?_)
      · replace k := k.1 c
        exact gx_sub [3] rfl k
      · replace k := k.2 c
        refine gx_aload_n h 3 rfl dX7_put_64 ?_
        refine gx_iload_n h 4 rfl dX7_put_65 ?_
        refine gx_iload h 1 rfl dX7_put_66 ?_
        refine gx_iconst (v := 1) h dX7_put_68 (by decide) ?_
        refine gm_c_of h rfl ⟨Nat.le_of_ble_eq_true rfl, Nat.le_of_ble_eq_true rfl⟩ (Nat.le_of_ble_eq_true rfl) dX7_put_69 (gx_C.mono k ?_)
        rintro _ X69 ⟨r69, rfl, k⟩
        refine ⟨r69, rfl, ?_⟩
        refine gx_iconst (v := 3) h dX7_put_72 (by decide) ?_
        refine gx_icmp_eq (tgt := 81) h (by decide) dX7_put_73 (fun c => ?_) (fun c => ?_)
        · replace k := k.1 c
          exact gx_sub [3] rfl k
        · replace k := k.2 c
          refine gx_iload h 0 rfl dX7_put_76 ?_
          refine gx_if_ne (tgt := 88) h (by decide) dX7_put_78 (fun c => ?_) (fun c => ?_)
          · replace k := k.2 c
            refine gx_iload h 7 rfl dX7_put_88 ?_
            refine gx_if_lt (tgt := 117) h (by decide) dX7_put_90 (fun c => ?_) (fun c => ?_)
            · replace k := k.1 c
              exact gx_sub [3] rfl k
            · replace k := k.2 c
              refine gx_iload h 8 rfl dX7_put_93 ?_
              refine gx_if_lt (tgt := 117) h (by decide) dX7_put_95 (fun c => ?_) (fun c => ?_)
              · replace k := k.1 c
                exact gx_sub [3] rfl k
              · replace k := k.2 c
                refine gx_iload h 7 rfl dX7_put_98 ?_
                refine gx_i2l h dX7_put_100 ?_
                refine gx_iload h 8 rfl dX7_put_101 ?_
                refine gx_i2l h dX7_put_103 ?_
                refine gx_ladd h dX7_put_104 ?_
                refine gx_aload_n h 3 rfl dX7_put_105 ?_
                refine gx_iload_n h 4 rfl dX7_put_106 ?_
                refine gx_iload h 1 rfl dX7_put_107 ?_
                refine gm_c_children h rfl ⟨Nat.le_of_ble_eq_true rfl, Nat.le_of_ble_eq_true rfl⟩ (Nat.le_of_ble_eq_true rfl) dX7_put_109 (gx_C.mono k ?_)
                rintro _ X109 ⟨r109, rfl, k⟩
                refine ⟨r109, rfl, ?_⟩
                refine gx_i2l h dX7_put_112 ?_
                refine gx_lcmp h dX7_put_113 ?_
                refine gx_if_le (tgt := 123) h (by decide) dX7_put_114 (fun c => ?_) (fun c => ?_)
                · replace k := k.1 c
                  refine gx_aload_n h 3 rfl dX7_put_123 ?_
                  refine gm_get1 h rfl dX7_put_124 ?_
                  refine gx_iload_n h 4 rfl dX7_put_127 ?_
                  refine gm_ld1 h k.1 dX7_put_128 ?_
                  replace k := k.2
                  refine gx_bipush (v := 30) h dX7_put_129 (by decide) ?_
                  refine gx_icmp_ne (tgt := 141) h (by decide) dX7_put_131 (fun c => ?_) (fun c => ?_)
                  · replace k := k.2 c
                    refine gx_aload_n h 3 rfl dX7_put_141 ?_
                    refine gx_iload_n h 4 rfl dX7_put_142 ?_
                    refine gx_iload h 1 rfl dX7_put_143 ?_
                    refine gx_iload h 7 rfl dX7_put_145 ?_
                    refine gm_c_child h rfl ⟨Nat.le_of_ble_eq_true rfl, Nat.le_of_ble_eq_true rfl⟩ (Nat.le_of_ble_eq_true rfl) dX7_put_147 (gx_C.mono k ?_)
                    rintro _ X147 ⟨r147, rfl, k⟩
                    refine ⟨r147, rfl, ?_⟩
                    refine gx_istore (L' := [(9, .int r147), (8, .int r50), (7, .int r22), (6, .int r2), (0, .ref (gm_am θ)), (1, .int x1), (2, .int x2), (3, .int x3), (4, .int x4), (5, .int x5)]) h (by decide) rfl dX7_put_150 ?_
                    refine gx_iload h 0 rfl dX7_put_152 ?_
                    refine gx_istore (L' := [(10, .int r147), (9, .int r147), (8, .int r50), (7, .int r22), (6, .int r2), (0, .ref (gm_am θ)), (1, .int x1), (2, .int x2), (3, .int x3), (4, .int x4), (5, .int x5)]) h (by decide) rfl dX7_put_154 ?_
                    refine gx_iconst (v := 0) h dX7_put_156 (by decide) ?_
                    refine gx_istore (L' := [(11, .int 0), (10, .int r147), (9, .int r147), (8, .int r50), (7, .int r22), (6, .int r2), (0, .ref (gm_am θ)), (1, .int x1), (2, .int x2), (3, .int x3), (4, .int x4), (5, .int x5)]) h (by decide) rfl dX7_put_157 ?_
                    exact gx_sub [6, 7, 9, 11, 4, 2, 1, 0] rfl k
                  · replace k := k.1 c
                    refine gx_aload_n h 3 rfl dX7_put_134 ?_
                    refine gx_bipush (v := (-5)) h dX7_put_135 (by decide) ?_
                    refine gm_c_found0 h rfl ⟨Nat.le_of_ble_eq_true rfl, Nat.le_of_ble_eq_true rfl⟩ (Nat.le_of_ble_eq_true rfl) dX7_put_137 (gx_C.mono k ?_)
                    rintro _ X137 ⟨r137, rfl, k⟩
                    refine ⟨r137, rfl, ?_⟩
                    exact gx_iret h rfl dX7_put_140 ⟨_, rfl, k⟩
                · replace k := k.2 c
                  exact gx_sub [3] rfl k
          · replace k := k.1 c
            exact gx_sub [3] rfl k
    · replace k := k.2 c
      refine gx_aload_n h 2 rfl dX7_put_32 ?_
      refine gx_bipush (v := (-6)) h dX7_put_33 (by decide) ?_
      refine gm_c_found0 h rfl ⟨Nat.le_of_ble_eq_true rfl, Nat.le_of_ble_eq_true rfl⟩ (Nat.le_of_ble_eq_true rfl) dX7_put_35 (gx_C.mono k ?_)
      rintro _ X35 ⟨r35, rfl, k⟩
      refine ⟨r35, rfl, ?_⟩
      exact gx_iret h rfl dX7_put_38 ⟨_, rfl, k⟩
  · replace k := k.2 c
    refine gx_aload_n h 1 rfl dX7_put_12 ?_
    refine gx_iload h 0 rfl dX7_put_13 ?_
    refine gm_c_found0 h rfl ⟨Nat.le_of_ble_eq_true rfl, Nat.le_of_ble_eq_true rfl⟩ (Nat.le_of_ble_eq_true rfl) dX7_put_15 (gx_C.mono k ?_)
    rintro _ X15 ⟨r15, rfl, k⟩
    refine ⟨r15, rfl, ?_⟩
    exact gx_iret h rfl dX7_put_18 ⟨_, rfl, k⟩
theorem bm_put_81 {θ : gm_T} {K : gx_K} {P : Int32 → gm_X → Prop} {X : gm_X} (h : gm_K θ K mX7_put) (k : gx_C (gm_O θ) mX7_found0 [.ref (gm_am θ), .int (-3)] X (gm_Pi (fun r84 X84 => P r84 X84))) : gm_G θ K mX7_put (gm_Pi P) 81 [(0, .ref (gm_am θ))] [] X := by
  refine gx_aload_n h 0 rfl dX7_put_81 ?_
  refine gx_bipush (v := (-3)) h dX7_put_82 (by decide) ?_
  refine gm_c_found0 h rfl ⟨Nat.le_of_ble_eq_true rfl, Nat.le_of_ble_eq_true rfl⟩ (Nat.le_of_ble_eq_true rfl) dX7_put_84 (gx_C.mono k ?_)
  rintro _ X84 ⟨r84, rfl, k⟩
  refine ⟨r84, rfl, ?_⟩
  exact gx_iret h rfl dX7_put_87 ⟨_, rfl, k⟩
theorem bm_put_117 {θ : gm_T} {K : gx_K} {P : Int32 → gm_X → Prop} {X : gm_X} (h : gm_K θ K mX7_put) (k : gx_C (gm_O θ) mX7_found0 [.ref (gm_am θ), .int (-1)] X (gm_Pi (fun r119 X119 => P r119 X119))) : gm_G θ K mX7_put (gm_Pi P) 117 [(0, .ref (gm_am θ))] [] X := by
  refine gx_aload_n h 0 rfl dX7_put_117 ?_
  refine gx_iconst (v := (-1)) h dX7_put_118 (by decide) ?_
  refine gm_c_found0 h rfl ⟨Nat.le_of_ble_eq_true rfl, Nat.le_of_ble_eq_true rfl⟩ (Nat.le_of_ble_eq_true rfl) dX7_put_119 (gx_C.mono k ?_)
  rintro _ X119 ⟨r119, rfl, k⟩
  refine ⟨r119, rfl, ?_⟩
  exact gx_iret h rfl dX7_put_122 ⟨_, rfl, k⟩
theorem bm_put_159 {θ : gm_T} {K : gx_K} {P : Int32 → gm_X → Prop} {X : gm_X} {x1 x3 x5 x7 x9 x10 x11 : Int32} (h : gm_K θ K mX7_put) (k : ((x5 ≤ x11 → gm_G θ K mX7_put (gm_Pi P) 184 [(0, .ref (gm_am θ)), (1, .int x1), (3, .int x3), (7, .int x7), (9, .int x9), (10, .int x10), (11, .int 3)] [] X) ∧ (¬ x5 ≤ x11 → gx_C (gm_O θ) mX7_end [.ref (gm_am θ), .int x1, .int x10] X (gm_Pi (fun r170 X170 => gm_G θ K mX7_put (gm_Pi P) 159 [(0, .ref (gm_am θ)), (1, .int x1), (3, .int x3), (5, .int x5), (7, .int x7), (9, .int x9), (10, .int r170), (11, .int (x11 + 1))] [] X170))))) : gm_G θ K mX7_put (gm_Pi P) 159 [(0, .ref (gm_am θ)), (1, .int x1), (3, .int x3), (5, .int x5), (7, .int x7), (9, .int x9), (10, .int x10), (11, .int x11)] [] X := by
  refine gx_iload h 7 rfl dX7_put_159 ?_
  refine gx_iload h 3 rfl dX7_put_161 ?_
  refine gx_icmp_ge (tgt := 181) h (by decide) dX7_put_163 (fun c => ?_) (fun c => ?_)
  · replace k := k.1 c
    refine gx_iconst (v := 3) h dX7_put_181 (by decide) ?_
    refine gx_istore (L' := [(11, .int 3), (0, .ref (gm_am θ)), (1, .int x1), (3, .int x3), (5, .int x5), (7, .int x7), (9, .int x9), (10, .int x10)]) h (by decide) rfl dX7_put_182 ?_
    exact gx_sub [1, 2, 3, 5, 6, 7, 0] rfl k
  · replace k := k.2 c
    refine gx_aload_n h 0 rfl dX7_put_166 ?_
    refine gx_iload_n h 1 rfl dX7_put_167 ?_
    refine gx_iload h 6 rfl dX7_put_168 ?_
    refine gm_c_end h rfl ⟨Nat.le_of_ble_eq_true rfl, Nat.le_of_ble_eq_true rfl⟩ (Nat.le_of_ble_eq_true rfl) dX7_put_170 (gx_C.mono k ?_)
    rintro _ X170 ⟨r170, rfl, k⟩
    refine ⟨r170, rfl, ?_⟩
    refine gx_istore (L' := [(10, .int r170), (0, .ref (gm_am θ)), (1, .int x1), (3, .int x3), (5, .int x5), (7, .int x7), (9, .int x9), (11, .int x11)]) h (by decide) rfl dX7_put_173 ?_
    refine gx_iinc (v := x11 + 1) (L' := [(11, .int (x11 + 1)), (10, .int r170), (0, .ref (gm_am θ)), (1, .int x1), (3, .int x3), (5, .int x5), (7, .int x7), (9, .int x9)]) h 7 rfl rfl (by decide) rfl dX7_put_175 ?_
    refine gx_goto (tgt := 159) h (by decide) dX7_put_178 ?_
    exact gx_sub [2, 3, 4, 5, 6, 7, 1, 0] rfl k
theorem bm_put_184 {θ : gm_T} {K : gx_K} {P : Int32 → gm_X → Prop} {X : gm_X} {x1 x3 x7 x9 x10 x11 : Int32} (h : gm_K θ K mX7_put) (k : ((10 ≤ x11 → gx_C (gm_O θ) mX7_set [.ref (gm_am θ), .int 9, .int x9, .int 0, .int (X.1 2)] X (gm_Pv (fun X226 => gx_C (gm_O θ) mX7_set [.ref (gm_am θ), .int 9, .int x9, .int 1, .int x3] X226 (gm_Pv (fun X236 => gx_C (gm_O θ) mX7_deep [.ref (gm_am θ), .int x1, .int x7] X236 (gm_Pi (fun r249 X249 => gx_C (gm_O θ) mX7_set [.ref (gm_am θ), .int 9, .int x9, .int 2, .int (r249 + 1)] X249 (gm_Pv (fun X254 => gx_C (gm_O θ) mX7_set [.ref (gm_am θ), .int 9, .int x9, .int 10, .int 0] X254 (gm_Pv (fun X265 => gm_G θ K mX7_put (gm_Pi P) 271 [(0, .ref (gm_am θ)), (1, .int x1), (9, .int x9), (10, .int x10), (11, .int 0)] [] X265))))))))))) ∧ (¬ 10 ≤ x11 → gx_C (gm_O θ) mX7_of [.ref (gm_am θ), .int 8, .int 0, .int x11] X (gm_Pi (fun r204 X204 => gx_C (gm_O θ) mX7_set [.ref (gm_am θ), .int 9, .int x9, .int x11, .int r204] X204 (gm_Pv (fun X207 => gm_G θ K mX7_put (gm_Pi P) 184 [(0, .ref (gm_am θ)), (1, .int x1), (3, .int x3), (7, .int x7), (9, .int x9), (10, .int x10), (11, .int (x11 + 1))] [] X207))))))) : gm_G θ K mX7_put (gm_Pi P) 184 [(0, .ref (gm_am θ)), (1, .int x1), (3, .int x3), (7, .int x7), (9, .int x9), (10, .int x10), (11, .int x11)] [] X := by
  refine gx_iload h 6 rfl dX7_put_184 ?_
  refine gx_bipush (v := 10) h dX7_put_186 (by decide) ?_
  refine gx_icmp_ge (tgt := 216) h (by decide) dX7_put_188 (fun c => ?_) (fun c => ?_)
  · replace k := k.1 c
    refine gx_aload_n h 0 rfl dX7_put_216 ?_
    refine gx_bipush (v := 9) h dX7_put_217 (by decide) ?_
    refine gx_iload h 4 rfl dX7_put_219 ?_
    refine gx_iconst (v := 0) h dX7_put_221 (by decide) ?_
    refine gx_aload_n h 0 rfl dX7_put_222 ?_
    refine gm_get2 h rfl dX7_put_223 ?_
    refine gm_c_set h rfl ⟨Nat.le_of_ble_eq_true rfl, Nat.le_of_ble_eq_true rfl⟩ (Nat.le_of_ble_eq_true rfl) dX7_put_226 (gx_C.mono k ?_)
    rintro _ X226 ⟨rfl, k⟩
    refine ⟨rfl, ?_⟩
    refine gx_aload_n h 0 rfl dX7_put_229 ?_
    refine gx_bipush (v := 9) h dX7_put_230 (by decide) ?_
    refine gx_iload h 4 rfl dX7_put_232 ?_
    refine gx_iconst (v := 1) h dX7_put_234 (by decide) ?_
    refine gx_iload_n h 2 rfl dX7_put_235 ?_
    refine gm_c_set h rfl ⟨Nat.le_of_ble_eq_true rfl, Nat.le_of_ble_eq_true rfl⟩ (Nat.le_of_ble_eq_true rfl) dX7_put_236 (gx_C.mono k ?_)
    rintro _ X236 ⟨rfl, k⟩
    refine ⟨rfl, ?_⟩
    refine gx_aload_n h 0 rfl dX7_put_239 ?_
    refine gx_bipush (v := 9) h dX7_put_240 (by decide) ?_
    refine gx_iload h 4 rfl dX7_put_242 ?_
    refine gx_iconst (v := 2) h dX7_put_244 (by decide) ?_
    refine gx_aload_n h 0 rfl dX7_put_245 ?_
    refine gx_iload_n h 1 rfl dX7_put_246 ?_
    refine gx_iload h 3 rfl dX7_put_247 ?_
    refine gm_c_deep h rfl ⟨Nat.le_of_ble_eq_true rfl, Nat.le_of_ble_eq_true rfl⟩ (Nat.le_of_ble_eq_true rfl) dX7_put_249 (gx_C.mono k ?_)
    rintro _ X249 ⟨r249, rfl, k⟩
    refine ⟨r249, rfl, ?_⟩
    refine gx_iconst (v := 1) h dX7_put_252 (by decide) ?_
    refine gx_iadd h dX7_put_253 ?_
    refine gm_c_set h rfl ⟨Nat.le_of_ble_eq_true rfl, Nat.le_of_ble_eq_true rfl⟩ (Nat.le_of_ble_eq_true rfl) dX7_put_254 (gx_C.mono k ?_)
    rintro _ X254 ⟨rfl, k⟩
    refine ⟨rfl, ?_⟩
    refine gx_aload_n h 0 rfl dX7_put_257 ?_
    refine gx_bipush (v := 9) h dX7_put_258 (by decide) ?_
    refine gx_iload h 4 rfl dX7_put_260 ?_
    refine gx_bipush (v := 10) h dX7_put_262 (by decide) ?_
    refine gx_iconst (v := 0) h dX7_put_264 (by decide) ?_
    refine gm_c_set h rfl ⟨Nat.le_of_ble_eq_true rfl, Nat.le_of_ble_eq_true rfl⟩ (Nat.le_of_ble_eq_true rfl) dX7_put_265 (gx_C.mono k ?_)
    rintro _ X265 ⟨rfl, k⟩
    refine ⟨rfl, ?_⟩
    refine gx_iconst (v := 0) h dX7_put_268 (by decide) ?_
    refine gx_istore (L' := [(11, .int 0), (0, .ref (gm_am θ)), (1, .int x1), (3, .int x3), (7, .int x7), (9, .int x9), (10, .int x10)]) h (by decide) rfl dX7_put_269 ?_
    exact gx_sub [1, 2, 5, 6, 0] rfl k
  · replace k := k.2 c
    refine gx_aload_n h 0 rfl dX7_put_191 ?_
    refine gx_bipush (v := 9) h dX7_put_192 (by decide) ?_
    refine gx_iload h 4 rfl dX7_put_194 ?_
    refine gx_iload h 6 rfl dX7_put_196 ?_
    refine gx_aload_n h 0 rfl dX7_put_198 ?_
    refine gx_bipush (v := 8) h dX7_put_199 (by decide) ?_
    refine gx_iconst (v := 0) h dX7_put_201 (by decide) ?_
    refine gx_iload h 6 rfl dX7_put_202 ?_
    refine gm_c_of h rfl ⟨Nat.le_of_ble_eq_true rfl, Nat.le_of_ble_eq_true rfl⟩ (Nat.le_of_ble_eq_true rfl) dX7_put_204 (gx_C.mono k ?_)
    rintro _ X204 ⟨r204, rfl, k⟩
    refine ⟨r204, rfl, ?_⟩
    refine gm_c_set h rfl ⟨Nat.le_of_ble_eq_true rfl, Nat.le_of_ble_eq_true rfl⟩ (Nat.le_of_ble_eq_true rfl) dX7_put_207 (gx_C.mono k ?_)
    rintro _ X207 ⟨rfl, k⟩
    refine ⟨rfl, ?_⟩
    refine gx_iinc (v := x11 + 1) (L' := [(11, .int (x11 + 1)), (0, .ref (gm_am θ)), (1, .int x1), (3, .int x3), (7, .int x7), (9, .int x9), (10, .int x10)]) h 6 rfl rfl (by decide) rfl dX7_put_210 ?_
    refine gx_goto (tgt := 184) h (by decide) dX7_put_213 ?_
    exact gx_sub [1, 2, 3, 4, 5, 6, 0] rfl k
theorem bm_put_271 {θ : gm_T} {K : gx_K} {P : Int32 → gm_X → Prop} {X : gm_X} {x1 x9 x10 x11 : Int32} (h : gm_K θ K mX7_put) (k : vp_in x1 11 ∧ (((X.2 1 x1.toNatClampNeg) ≤ x11 → vp_in x1 11 ∧ vp_in 9 11 ∧ ∀ X363, X363 = gm_pA X 1 (9 : Int32).toNatClampNeg ((X.2 1 x1.toNatClampNeg) + 1) → gx_C (gm_O θ) mX7_isTooDeep [.ref (gm_am θ), .int 9] X363 (gm_Pi (fun r367 X367 => ((r367 = 0 → gx_C (gm_O θ) mX7_hasTwice [.ref (gm_am θ), .int 9] X367 (gm_Pi (fun r383 X383 => ((r383 = 0 → gx_C (gm_O θ) mX7_copyAll [.ref (gm_am θ), .int 9, .int x1] X383 (gm_Pv (fun X400 => ∀ X410, X410 = gm_pI X400 2 ((X400.1 2) + 1) → P ((X410.1 2) - 1) X410))) ∧ (¬ r383 = 0 → gx_C (gm_O θ) mX7_found0 [.ref (gm_am θ), .int (-4)] X383 (gm_Pi (fun r392 X392 => P r392 X392))))))) ∧ (¬ r367 = 0 → gx_C (gm_O θ) mX7_found0 [.ref (gm_am θ), .int (-5)] X367 (gm_Pi (fun r376 X376 => P r376 X376))))))) ∧ (¬ (X.2 1 x1.toNatClampNeg) ≤ x11 → ((x9 ≤ x11 → gm_G θ K mX7_put (gm_Pi P) 298 [(0, .ref (gm_am θ)), (1, .int x1), (9, .int x9), (10, .int x10), (11, .int x11)] [.int (x11 + 1)] X) ∧ (¬ x9 ≤ x11 → gm_G θ K mX7_put (gm_Pi P) 298 [(0, .ref (gm_am θ)), (1, .int x1), (9, .int x9), (10, .int x10), (11, .int x11)] [.int x11] X))))) : gm_G θ K mX7_put (gm_Pi P) 271 [(0, .ref (gm_am θ)), (1, .int x1), (9, .int x9), (10, .int x10), (11, .int x11)] [] X := by
  refine gx_iload h 4 rfl dX7_put_271 ?_
  refine gx_aload_n h 0 rfl dX7_put_273 ?_
  refine gm_get1 h rfl dX7_put_274 ?_
  refine gx_iload_n h 1 rfl dX7_put_277 ?_
  refine gm_ld1 h k.1 dX7_put_278 ?_
  replace k := k.2
  refine gx_icmp_ge (tgt := 349) h (by decide) dX7_put_279 (fun c => ?_) (fun c => ?_)
  · replace k := k.1 c
    refine gx_aload_n h 0 rfl dX7_put_349 ?_
    refine gm_get1 h rfl dX7_put_350 ?_
    refine gx_bipush (v := 9) h dX7_put_353 (by decide) ?_
    refine gx_aload_n h 0 rfl dX7_put_355 ?_
    refine gm_get1 h rfl dX7_put_356 ?_
    refine gx_iload_n h 1 rfl dX7_put_359 ?_
    refine gm_ld1 h k.1 dX7_put_360 ?_
    replace k := k.2
    refine gx_iconst (v := 1) h dX7_put_361 (by decide) ?_
    refine gx_iadd h dX7_put_362 ?_
    refine gm_st1 h k.1 dX7_put_363 ?_
    generalize hz : gm_pA X 1 (9 : Int32).toNatClampNeg ((X.2 1 x1.toNatClampNeg) + 1) = X363
    replace k := k.2 X363 hz.symm
    refine gx_aload_n h 0 rfl dX7_put_364 ?_
    refine gx_bipush (v := 9) h dX7_put_365 (by decide) ?_
    refine gm_c_isTooDeep h rfl ⟨Nat.le_of_ble_eq_true rfl, Nat.le_of_ble_eq_true rfl⟩ (Nat.le_of_ble_eq_true rfl) dX7_put_367 (gx_C.mono k ?_)
    rintro _ X367 ⟨r367, rfl, k⟩
    refine ⟨r367, rfl, ?_⟩
    refine gx_if_eq (tgt := 380) h (by decide) dX7_put_370 (fun c => ?_) (fun c => ?_)
    · replace k := k.1 c
      refine gx_aload_n h 0 rfl dX7_put_380 ?_
      refine gx_bipush (v := 9) h dX7_put_381 (by decide) ?_
      refine gm_c_hasTwice h rfl ⟨Nat.le_of_ble_eq_true rfl, Nat.le_of_ble_eq_true rfl⟩ (Nat.le_of_ble_eq_true rfl) dX7_put_383 (gx_C.mono k ?_)
      rintro _ X383 ⟨r383, rfl, k⟩
      refine ⟨r383, rfl, ?_⟩
      refine gx_if_eq (tgt := 396) h (by decide) dX7_put_386 (fun c => ?_) (fun c => ?_)
      · replace k := k.1 c
        refine gx_aload_n h 0 rfl dX7_put_396 ?_
        refine gx_bipush (v := 9) h dX7_put_397 (by decide) ?_
        refine gx_iload_n h 1 rfl dX7_put_399 ?_
        refine gm_c_copyAll h rfl ⟨Nat.le_of_ble_eq_true rfl, Nat.le_of_ble_eq_true rfl⟩ (Nat.le_of_ble_eq_true rfl) dX7_put_400 (gx_C.mono k ?_)
        rintro _ X400 ⟨rfl, k⟩
        refine ⟨rfl, ?_⟩
        refine gx_aload_n h 0 rfl dX7_put_403 ?_
        refine gx_dup h rfl dX7_put_404 ?_
        refine gm_get2 h rfl dX7_put_405 ?_
        refine gx_iconst (v := 1) h dX7_put_408 (by decide) ?_
        refine gx_iadd h dX7_put_409 ?_
        refine gm_put2 h rfl dX7_put_410 ?_
        generalize hz : gm_pI X400 2 ((X400.1 2) + 1) = X410
        replace k := k X410 hz.symm
        refine gx_aload_n h 0 rfl dX7_put_413 ?_
        refine gm_get2 h rfl dX7_put_414 ?_
        refine gx_iconst (v := 1) h dX7_put_417 (by decide) ?_
        refine gx_isub h dX7_put_418 ?_
        exact gx_iret h rfl dX7_put_419 ⟨_, rfl, k⟩
      · replace k := k.2 c
        refine gx_aload_n h 0 rfl dX7_put_389 ?_
        refine gx_bipush (v := (-4)) h dX7_put_390 (by decide) ?_
        refine gm_c_found0 h rfl ⟨Nat.le_of_ble_eq_true rfl, Nat.le_of_ble_eq_true rfl⟩ (Nat.le_of_ble_eq_true rfl) dX7_put_392 (gx_C.mono k ?_)
        rintro _ X392 ⟨r392, rfl, k⟩
        refine ⟨r392, rfl, ?_⟩
        exact gx_iret h rfl dX7_put_395 ⟨_, rfl, k⟩
    · replace k := k.2 c
      refine gx_aload_n h 0 rfl dX7_put_373 ?_
      refine gx_bipush (v := (-5)) h dX7_put_374 (by decide) ?_
      refine gm_c_found0 h rfl ⟨Nat.le_of_ble_eq_true rfl, Nat.le_of_ble_eq_true rfl⟩ (Nat.le_of_ble_eq_true rfl) dX7_put_376 (gx_C.mono k ?_)
      rintro _ X376 ⟨r376, rfl, k⟩
      refine ⟨r376, rfl, ?_⟩
      exact gx_iret h rfl dX7_put_379 ⟨_, rfl, k⟩
  · replace k := k.2 c
    refine gx_iload h 4 rfl dX7_put_282 ?_
    refine gx_iload h 2 rfl dX7_put_284 ?_
    refine gx_icmp_ge (tgt := 294) h (by decide) dX7_put_286 (fun c => ?_) (fun c => ?_)
    · replace k := k.1 c
      refine gx_iload h 4 rfl dX7_put_294 ?_
      refine gx_iconst (v := 1) h dX7_put_296 (by decide) ?_
      refine gx_iadd h dX7_put_297 ?_
      exact k
    · replace k := k.2 c
      refine gx_iload h 4 rfl dX7_put_289 ?_
      refine gx_goto (tgt := 298) h (by decide) dX7_put_291 ?_
      exact k
theorem bm_put_298 {θ : gm_T} {K : gx_K} {P : Int32 → gm_X → Prop} {X : gm_X} {x1 x9 x10 x11 s0 : Int32} (h : gm_K θ K mX7_put) (k : gx_C (gm_O θ) mX7_carry [.ref (gm_am θ), .int x1, .int x11, .int 9, .int s0] X (gm_Pv (fun X308 => ((x11 < x9 → gm_G θ K mX7_put (gm_Pi P) 343 [(0, .ref (gm_am θ)), (1, .int x1), (9, .int x9), (10, .int x10), (11, .int x11)] [] X308) ∧ (¬ x11 < x9 → ((x10 ≤ x11 → gm_G θ K mX7_put (gm_Pi P) 343 [(0, .ref (gm_am θ)), (1, .int x1), (9, .int x9), (10, .int x10), (11, .int x11)] [] X308) ∧ (¬ x10 ≤ x11 → gx_C (gm_O θ) mX7_deep [.ref (gm_am θ), .int x1, .int x11] X308 (gm_Pi (fun r335 X335 => gx_C (gm_O θ) mX7_set [.ref (gm_am θ), .int 9, .int s0, .int 2, .int (r335 + 1)] X335 (gm_Pv (fun X340 => gm_G θ K mX7_put (gm_Pi P) 343 [(0, .ref (gm_am θ)), (1, .int x1), (9, .int x9), (10, .int x10), (11, .int x11)] [] X340))))))))))) : gm_G θ K mX7_put (gm_Pi P) 298 [(0, .ref (gm_am θ)), (1, .int x1), (9, .int x9), (10, .int x10), (11, .int x11)] [.int s0] X := by
  refine gx_istore (L' := [(12, .int s0), (0, .ref (gm_am θ)), (1, .int x1), (9, .int x9), (10, .int x10), (11, .int x11)]) h (by decide) rfl dX7_put_298 ?_
  refine gx_aload_n h 1 rfl dX7_put_300 ?_
  refine gx_iload_n h 2 rfl dX7_put_301 ?_
  refine gx_iload h 5 rfl dX7_put_302 ?_
  refine gx_bipush (v := 9) h dX7_put_304 (by decide) ?_
  refine gx_iload h 0 rfl dX7_put_306 ?_
  refine gm_c_carry h rfl ⟨Nat.le_of_ble_eq_true rfl, Nat.le_of_ble_eq_true rfl⟩ (Nat.le_of_ble_eq_true rfl) dX7_put_308 (gx_C.mono k ?_)
  rintro _ X308 ⟨rfl, k⟩
  refine ⟨rfl, ?_⟩
  refine gx_iload h 5 rfl dX7_put_311 ?_
  refine gx_iload h 3 rfl dX7_put_313 ?_
  refine gx_icmp_lt (tgt := 343) h (by decide) dX7_put_315 (fun c => ?_) (fun c => ?_)
  · replace k := k.1 c
    exact gx_sub [1, 2, 3, 4, 5] rfl k
  · replace k := k.2 c
    refine gx_iload h 5 rfl dX7_put_318 ?_
    refine gx_iload h 4 rfl dX7_put_320 ?_
    refine gx_icmp_ge (tgt := 343) h (by decide) dX7_put_322 (fun c => ?_) (fun c => ?_)
    · replace k := k.1 c
      exact gx_sub [1, 2, 3, 4, 5] rfl k
    · replace k := k.2 c
      refine gx_aload_n h 1 rfl dX7_put_325 ?_
      refine gx_bipush (v := 9) h dX7_put_326 (by decide) ?_
      refine gx_iload h 0 rfl dX7_put_328 ?_
      refine gx_iconst (v := 2) h dX7_put_330 (by decide) ?_
      refine gx_aload_n h 1 rfl dX7_put_331 ?_
      refine gx_iload_n h 2 rfl dX7_put_332 ?_
      refine gx_iload h 5 rfl dX7_put_333 ?_
      refine gm_c_deep h rfl ⟨Nat.le_of_ble_eq_true rfl, Nat.le_of_ble_eq_true rfl⟩ (Nat.le_of_ble_eq_true rfl) dX7_put_335 (gx_C.mono k ?_)
      rintro _ X335 ⟨r335, rfl, k⟩
      refine ⟨r335, rfl, ?_⟩
      refine gx_iconst (v := 1) h dX7_put_338 (by decide) ?_
      refine gx_iadd h dX7_put_339 ?_
      refine gm_c_set h rfl ⟨Nat.le_of_ble_eq_true rfl, Nat.le_of_ble_eq_true rfl⟩ (Nat.le_of_ble_eq_true rfl) dX7_put_340 (gx_C.mono k ?_)
      rintro _ X340 ⟨rfl, k⟩
      refine ⟨rfl, ?_⟩
      exact gx_sub [1, 2, 3, 4, 5] rfl k
theorem bm_put_343 {θ : gm_T} {K : gx_K} {P : Int32 → gm_X → Prop} {X : gm_X} {x1 x9 x10 x11 : Int32} (h : gm_K θ K mX7_put) (k : gm_G θ K mX7_put (gm_Pi P) 271 [(0, .ref (gm_am θ)), (1, .int x1), (9, .int x9), (10, .int x10), (11, .int (x11 + 1))] [] X) : gm_G θ K mX7_put (gm_Pi P) 343 [(0, .ref (gm_am θ)), (1, .int x1), (9, .int x9), (10, .int x10), (11, .int x11)] [] X := by
  refine gx_iinc (v := x11 + 1) (L' := [(11, .int (x11 + 1)), (0, .ref (gm_am θ)), (1, .int x1), (9, .int x9), (10, .int x10)]) h 4 rfl rfl (by decide) rfl dX7_put_343 ?_
  refine gx_goto (tgt := 271) h (by decide) dX7_put_346 ?_
  exact gx_sub [1, 2, 3, 4, 0] rfl k
/-! child -/
theorem em_child {θ : gm_T} {P : Int32 → gm_X → Prop} {X : gm_X} {x1 : Int32} {x2 : Int32} {x3 : Int32} (body : ∀ K, gm_K θ K mX7_child → gm_G θ K mX7_child (gm_Pi P) 0 [(0, .ref (gm_am θ)), (1, .int x1), (2, .int x2), (3, .int x3)] [] X) : gx_C (gm_O θ) mX7_child [.ref (gm_am θ), .int x1, .int x2, .int x3] X (gm_Pi P) :=
  gx_C.intro (gm_z θ) (by decide) (Nat.le_of_ble_eq_true rfl) body
theorem bm_child_0 {θ : gm_T} {K : gx_K} {P : Int32 → gm_X → Prop} {X : gm_X} {x1 x2 x3 : Int32} (h : gm_K θ K mX7_child) (k : gm_G θ K mX7_child (gm_Pi P) 8 [(0, .ref (gm_am θ)), (1, .int x1), (2, .int x2), (3, .int x3), (4, .int (x2 + 1)), (5, .int 0)] [] X) : gm_G θ K mX7_child (gm_Pi P) 0 [(0, .ref (gm_am θ)), (1, .int x1), (2, .int x2), (3, .int x3)] [] X := by
  refine gx_iload_n h 2 rfl dX7_child_0 ?_
  refine gx_iconst (v := 1) h dX7_child_1 (by decide) ?_
  refine gx_iadd h dX7_child_2 ?_
  refine gx_istore (L' := [(4, .int (x2 + 1)), (0, .ref (gm_am θ)), (1, .int x1), (2, .int x2), (3, .int x3)]) h (by decide) rfl dX7_child_3 ?_
  refine gx_iconst (v := 0) h dX7_child_5 (by decide) ?_
  refine gx_istore (L' := [(5, .int 0), (4, .int (x2 + 1)), (0, .ref (gm_am θ)), (1, .int x1), (2, .int x2), (3, .int x3)]) h (by decide) rfl dX7_child_6 ?_
  exact gx_sub [2, 3, 4, 5, 1, 0] rfl k
theorem bm_child_8 {θ : gm_T} {K : gx_K} {P : Int32 → gm_X → Prop} {X : gm_X} {x1 x2 x3 x4 x5 : Int32} (h : gm_K θ K mX7_child) (k : ((x3 ≤ x5 → gm_G θ K mX7_child (gm_Pi P) 40 [(4, .int x4)] [] X) ∧ (¬ x3 ≤ x5 → gx_C (gm_O θ) mX7_end [.ref (gm_am θ), .int x1, .int x2] X (gm_Pi (fun r19 X19 => ((r19 ≤ x4 → gm_G θ K mX7_child (gm_Pi P) 40 [(4, .int x4)] [] X19) ∧ (¬ r19 ≤ x4 → gx_C (gm_O θ) mX7_end [.ref (gm_am θ), .int x1, .int x4] X19 (gm_Pi (fun r29 X29 => gm_G θ K mX7_child (gm_Pi P) 8 [(0, .ref (gm_am θ)), (1, .int x1), (2, .int x2), (3, .int x3), (4, .int r29), (5, .int (x5 + 1))] [] X29))))))))) : gm_G θ K mX7_child (gm_Pi P) 8 [(0, .ref (gm_am θ)), (1, .int x1), (2, .int x2), (3, .int x3), (4, .int x4), (5, .int x5)] [] X := by
  refine gx_iload h 5 rfl dX7_child_8 ?_
  refine gx_iload_n h 3 rfl dX7_child_10 ?_
  refine gx_icmp_ge (tgt := 40) h (by decide) dX7_child_11 (fun c => ?_) (fun c => ?_)
  · replace k := k.1 c
    exact gx_sub [4] rfl k
  · replace k := k.2 c
    refine gx_iload h 4 rfl dX7_child_14 ?_
    refine gx_aload_n h 0 rfl dX7_child_16 ?_
    refine gx_iload_n h 1 rfl dX7_child_17 ?_
    refine gx_iload_n h 2 rfl dX7_child_18 ?_
    refine gm_c_end h rfl ⟨Nat.le_of_ble_eq_true rfl, Nat.le_of_ble_eq_true rfl⟩ (Nat.le_of_ble_eq_true rfl) dX7_child_19 (gx_C.mono k ?_)
    rintro _ X19 ⟨r19, rfl, k⟩
    refine ⟨r19, rfl, ?_⟩
    refine gx_icmp_ge (tgt := 40) h (by decide) dX7_child_22 (fun c => ?_) (fun c => ?_)
    · replace k := k.1 c
      exact gx_sub [4] rfl k
    · replace k := k.2 c
      refine gx_aload_n h 0 rfl dX7_child_25 ?_
      refine gx_iload_n h 1 rfl dX7_child_26 ?_
      refine gx_iload h 4 rfl dX7_child_27 ?_
      refine gm_c_end h rfl ⟨Nat.le_of_ble_eq_true rfl, Nat.le_of_ble_eq_true rfl⟩ (Nat.le_of_ble_eq_true rfl) dX7_child_29 (gx_C.mono k ?_)
      rintro _ X29 ⟨r29, rfl, k⟩
      refine ⟨r29, rfl, ?_⟩
      refine gx_istore (L' := [(4, .int r29), (0, .ref (gm_am θ)), (1, .int x1), (2, .int x2), (3, .int x3), (5, .int x5)]) h (by decide) rfl dX7_child_32 ?_
      refine gx_iinc (v := x5 + 1) (L' := [(5, .int (x5 + 1)), (4, .int r29), (0, .ref (gm_am θ)), (1, .int x1), (2, .int x2), (3, .int x3)]) h 5 rfl rfl (by decide) rfl dX7_child_34 ?_
      refine gx_goto (tgt := 8) h (by decide) dX7_child_37 ?_
      exact gx_sub [2, 3, 4, 5, 1, 0] rfl k
theorem bm_child_40 {θ : gm_T} {K : gx_K} {P : Int32 → gm_X → Prop} {X : gm_X} {x4 : Int32} (h : gm_K θ K mX7_child) (k : P x4 X) : gm_G θ K mX7_child (gm_Pi P) 40 [(4, .int x4)] [] X := by
  refine gx_iload h 0 rfl dX7_child_40 ?_
  exact gx_iret h rfl dX7_child_42 ⟨_, rfl, k⟩
/-! isTooDeep -/
theorem em_isTooDeep {θ : gm_T} {P : Int32 → gm_X → Prop} {X : gm_X} {x1 : Int32} (body : ∀ K, gm_K θ K mX7_isTooDeep → gm_G θ K mX7_isTooDeep (gm_Pi P) 0 [(0, .ref (gm_am θ)), (1, .int x1)] [] X) : gx_C (gm_O θ) mX7_isTooDeep [.ref (gm_am θ), .int x1] X (gm_Pi P) :=
  gx_C.intro (gm_z θ) (by decide) (Nat.le_of_ble_eq_true rfl) body
theorem bm_isTooDeep_0 {θ : gm_T} {K : gx_K} {P : Int32 → gm_X → Prop} {X : gm_X} {x1 : Int32} (h : gm_K θ K mX7_isTooDeep) (k : gm_G θ K mX7_isTooDeep (gm_Pi P) 2 [(0, .ref (gm_am θ)), (1, .int x1), (2, .int 0)] [] X) : gm_G θ K mX7_isTooDeep (gm_Pi P) 0 [(0, .ref (gm_am θ)), (1, .int x1)] [] X := by
  refine gx_iconst (v := 0) h dX7_isTooDeep_0 (by decide) ?_
  refine gx_istore_n (L' := [(2, .int 0), (0, .ref (gm_am θ)), (1, .int x1)]) h (by decide) rfl dX7_isTooDeep_1 ?_
  exact gx_sub [1, 2, 0] rfl k
theorem bm_isTooDeep_2 {θ : gm_T} {K : gx_K} {P : Int32 → gm_X → Prop} {X : gm_X} {x1 x2 : Int32} (h : gm_K θ K mX7_isTooDeep) (k : vp_in x1 11 ∧ (((X.2 1 x1.toNatClampNeg) ≤ x2 → P 0 X) ∧ (¬ (X.2 1 x1.toNatClampNeg) ≤ x2 → gx_C (gm_O θ) mX7_deep [.ref (gm_am θ), .int x1, .int x2] X (gm_Pi (fun r15 X15 => ((r15 < 12 → gm_G θ K mX7_isTooDeep (gm_Pi P) 2 [(0, .ref (gm_am θ)), (1, .int x1), (2, .int (x2 + 1))] [] X15) ∧ (¬ r15 < 12 → P 1 X15))))))) : gm_G θ K mX7_isTooDeep (gm_Pi P) 2 [(0, .ref (gm_am θ)), (1, .int x1), (2, .int x2)] [] X := by
  refine gx_iload_n h 2 rfl dX7_isTooDeep_2 ?_
  refine gx_aload_n h 0 rfl dX7_isTooDeep_3 ?_
  refine gm_get1 h rfl dX7_isTooDeep_4 ?_
  refine gx_iload_n h 1 rfl dX7_isTooDeep_7 ?_
  refine gm_ld1 h k.1 dX7_isTooDeep_8 ?_
  replace k := k.2
  refine gx_icmp_ge (tgt := 31) h (by decide) dX7_isTooDeep_9 (fun c => ?_) (fun c => ?_)
  · replace k := k.1 c
    refine gx_iconst (v := 0) h dX7_isTooDeep_31 (by decide) ?_
    exact gx_zret h rfl rfl dX7_isTooDeep_32 ⟨_, rfl, k⟩
  · replace k := k.2 c
    refine gx_aload_n h 0 rfl dX7_isTooDeep_12 ?_
    refine gx_iload_n h 1 rfl dX7_isTooDeep_13 ?_
    refine gx_iload_n h 2 rfl dX7_isTooDeep_14 ?_
    refine gm_c_deep h rfl ⟨Nat.le_of_ble_eq_true rfl, Nat.le_of_ble_eq_true rfl⟩ (Nat.le_of_ble_eq_true rfl) dX7_isTooDeep_15 (gx_C.mono k ?_)
    rintro _ X15 ⟨r15, rfl, k⟩
    refine ⟨r15, rfl, ?_⟩
    refine gx_bipush (v := 12) h dX7_isTooDeep_18 (by decide) ?_
    refine gx_icmp_lt (tgt := 25) h (by decide) dX7_isTooDeep_20 (fun c => ?_) (fun c => ?_)
    · replace k := k.1 c
      refine gx_iinc (v := x2 + 1) (L' := [(2, .int (x2 + 1)), (0, .ref (gm_am θ)), (1, .int x1)]) h 2 rfl rfl (by decide) rfl dX7_isTooDeep_25 ?_
      refine gx_goto (tgt := 2) h (by decide) dX7_isTooDeep_28 ?_
      exact gx_sub [1, 2, 0] rfl k
    · replace k := k.2 c
      refine gx_iconst (v := 1) h dX7_isTooDeep_23 (by decide) ?_
      exact gx_zret h rfl rfl dX7_isTooDeep_24 ⟨_, rfl, k⟩
/-! hasTwice -/
theorem em_hasTwice {θ : gm_T} {P : Int32 → gm_X → Prop} {X : gm_X} {x1 : Int32} (body : ∀ K, gm_K θ K mX7_hasTwice → gm_G θ K mX7_hasTwice (gm_Pi P) 0 [(0, .ref (gm_am θ)), (1, .int x1)] [] X) : gx_C (gm_O θ) mX7_hasTwice [.ref (gm_am θ), .int x1] X (gm_Pi P) :=
  gx_C.intro (gm_z θ) (by decide) (Nat.le_of_ble_eq_true rfl) body
theorem bm_hasTwice_0 {θ : gm_T} {K : gx_K} {P : Int32 → gm_X → Prop} {X : gm_X} {x1 : Int32} (h : gm_K θ K mX7_hasTwice) (k : gm_G θ K mX7_hasTwice (gm_Pi P) 2 [(0, .ref (gm_am θ)), (1, .int x1), (2, .int 0)] [] X) : gm_G θ K mX7_hasTwice (gm_Pi P) 0 [(0, .ref (gm_am θ)), (1, .int x1)] [] X := by
  refine gx_iconst (v := 0) h dX7_hasTwice_0 (by decide) ?_
  refine gx_istore_n (L' := [(2, .int 0), (0, .ref (gm_am θ)), (1, .int x1)]) h (by decide) rfl dX7_hasTwice_1 ?_
  exact gx_sub [1, 2, 0] rfl k
theorem bm_hasTwice_2 {θ : gm_T} {K : gx_K} {P : Int32 → gm_X → Prop} {X : gm_X} {x1 x2 : Int32} (h : gm_K θ K mX7_hasTwice) (k : vp_in x1 11 ∧ (((X.2 1 x1.toNatClampNeg) ≤ x2 → P 0 X) ∧ (¬ (X.2 1 x1.toNatClampNeg) ≤ x2 → gx_C (gm_O θ) mX7_of [.ref (gm_am θ), .int x1, .int x2, .int 1] X (gm_Pi (fun r16 X16 => ((r16 = 2 → gm_G θ K mX7_hasTwice (gm_Pi P) 30 [(0, .ref (gm_am θ)), (1, .int x1), (2, .int x2), (3, .int (x2 + 1))] [] X16) ∧ (¬ r16 = 2 → gm_G θ K mX7_hasTwice (gm_Pi P) 88 [(0, .ref (gm_am θ)), (1, .int x1), (2, .int x2)] [] X16))))))) : gm_G θ K mX7_hasTwice (gm_Pi P) 2 [(0, .ref (gm_am θ)), (1, .int x1), (2, .int x2)] [] X := by
  refine gx_iload_n h 2 rfl dX7_hasTwice_2 ?_
  refine gx_aload_n h 0 rfl dX7_hasTwice_3 ?_
  refine gm_get1 h rfl dX7_hasTwice_4 ?_
  refine gx_iload_n h 1 rfl dX7_hasTwice_7 ?_
  refine gm_ld1 h k.1 dX7_hasTwice_8 ?_
  replace k := k.2
  refine gx_icmp_ge (tgt := 94) h (by decide) dX7_hasTwice_9 (fun c => ?_) (fun c => ?_)
  · replace k := k.1 c
    refine gx_iconst (v := 0) h dX7_hasTwice_94 (by decide) ?_
    exact gx_zret h rfl rfl dX7_hasTwice_95 ⟨_, rfl, k⟩
  · replace k := k.2 c
    refine gx_aload_n h 0 rfl dX7_hasTwice_12 ?_
    refine gx_iload_n h 1 rfl dX7_hasTwice_13 ?_
    refine gx_iload_n h 2 rfl dX7_hasTwice_14 ?_
    refine gx_iconst (v := 1) h dX7_hasTwice_15 (by decide) ?_
    refine gm_c_of h rfl ⟨Nat.le_of_ble_eq_true rfl, Nat.le_of_ble_eq_true rfl⟩ (Nat.le_of_ble_eq_true rfl) dX7_hasTwice_16 (gx_C.mono k ?_)
    rintro _ X16 ⟨r16, rfl, k⟩
    refine ⟨r16, rfl, ?_⟩
    refine gx_iconst (v := 2) h dX7_hasTwice_19 (by decide) ?_
    refine gx_icmp_eq (tgt := 26) h (by decide) dX7_hasTwice_20 (fun c => ?_) (fun c => ?_)
    · replace k := k.1 c
      refine gx_iload_n h 2 rfl dX7_hasTwice_26 ?_
      refine gx_iconst (v := 1) h dX7_hasTwice_27 (by decide) ?_
      refine gx_iadd h dX7_hasTwice_28 ?_
      refine gx_istore_n (L' := [(3, .int (x2 + 1)), (0, .ref (gm_am θ)), (1, .int x1), (2, .int x2)]) h (by decide) rfl dX7_hasTwice_29 ?_
      exact gx_sub [1, 2, 3, 0] rfl k
    · replace k := k.2 c
      refine gx_goto (tgt := 88) h (by decide) dX7_hasTwice_23 ?_
      exact k
theorem bm_hasTwice_30 {θ : gm_T} {K : gx_K} {P : Int32 → gm_X → Prop} {X : gm_X} {x1 x2 x3 : Int32} (h : gm_K θ K mX7_hasTwice) (k : gx_C (gm_O θ) mX7_end [.ref (gm_am θ), .int x1, .int x2] X (gm_Pi (fun r34 X34 => ((r34 ≤ x3 → gm_G θ K mX7_hasTwice (gm_Pi P) 88 [(0, .ref (gm_am θ)), (1, .int x1), (2, .int x2)] [] X34) ∧ (¬ r34 ≤ x3 → gm_G θ K mX7_hasTwice (gm_Pi P) 45 [(0, .ref (gm_am θ)), (1, .int x1), (2, .int x2), (3, .int x3), (4, .int (x2 + 1))] [] X34))))) : gm_G θ K mX7_hasTwice (gm_Pi P) 30 [(0, .ref (gm_am θ)), (1, .int x1), (2, .int x2), (3, .int x3)] [] X := by
  refine gx_iload_n h 3 rfl dX7_hasTwice_30 ?_
  refine gx_aload_n h 0 rfl dX7_hasTwice_31 ?_
  refine gx_iload_n h 1 rfl dX7_hasTwice_32 ?_
  refine gx_iload_n h 2 rfl dX7_hasTwice_33 ?_
  refine gm_c_end h rfl ⟨Nat.le_of_ble_eq_true rfl, Nat.le_of_ble_eq_true rfl⟩ (Nat.le_of_ble_eq_true rfl) dX7_hasTwice_34 (gx_C.mono k ?_)
  rintro _ X34 ⟨r34, rfl, k⟩
  refine ⟨r34, rfl, ?_⟩
  refine gx_icmp_ge (tgt := 88) h (by decide) dX7_hasTwice_37 (fun c => ?_) (fun c => ?_)
  · replace k := k.1 c
    exact gx_sub [0, 1, 2] rfl k
  · replace k := k.2 c
    refine gx_iload_n h 2 rfl dX7_hasTwice_40 ?_
    refine gx_iconst (v := 1) h dX7_hasTwice_41 (by decide) ?_
    refine gx_iadd h dX7_hasTwice_42 ?_
    refine gx_istore (L' := [(4, .int (x2 + 1)), (0, .ref (gm_am θ)), (1, .int x1), (2, .int x2), (3, .int x3)]) h (by decide) rfl dX7_hasTwice_43 ?_
    exact gx_sub [1, 2, 3, 4, 0] rfl k
theorem bm_hasTwice_45 {θ : gm_T} {K : gx_K} {P : Int32 → gm_X → Prop} {X : gm_X} {x1 x2 x3 x4 : Int32} (h : gm_K θ K mX7_hasTwice) (k : ((x3 ≤ x4 → gx_C (gm_O θ) mX7_end [.ref (gm_am θ), .int x1, .int x3] X (gm_Pi (fun r81 X81 => gm_G θ K mX7_hasTwice (gm_Pi P) 30 [(0, .ref (gm_am θ)), (1, .int x1), (2, .int x2), (3, .int r81)] [] X81))) ∧ (¬ x3 ≤ x4 → gx_C (gm_O θ) mX7_isLike [.ref (gm_am θ), .int x1, .int x3, .int x1, .int x4, .int 3] X (gm_Pi (fun r58 X58 => ((r58 = 0 → gx_C (gm_O θ) mX7_end [.ref (gm_am θ), .int x1, .int x4] X58 (gm_Pi (fun r70 X70 => gm_G θ K mX7_hasTwice (gm_Pi P) 45 [(0, .ref (gm_am θ)), (1, .int x1), (2, .int x2), (3, .int x3), (4, .int r70)] [] X70))) ∧ (¬ r58 = 0 → P 1 X58))))))) : gm_G θ K mX7_hasTwice (gm_Pi P) 45 [(0, .ref (gm_am θ)), (1, .int x1), (2, .int x2), (3, .int x3), (4, .int x4)] [] X := by
  refine gx_iload h 4 rfl dX7_hasTwice_45 ?_
  refine gx_iload_n h 3 rfl dX7_hasTwice_47 ?_
  refine gx_icmp_ge (tgt := 78) h (by decide) dX7_hasTwice_48 (fun c => ?_) (fun c => ?_)
  · replace k := k.1 c
    refine gx_aload_n h 0 rfl dX7_hasTwice_78 ?_
    refine gx_iload_n h 1 rfl dX7_hasTwice_79 ?_
    refine gx_iload_n h 3 rfl dX7_hasTwice_80 ?_
    refine gm_c_end h rfl ⟨Nat.le_of_ble_eq_true rfl, Nat.le_of_ble_eq_true rfl⟩ (Nat.le_of_ble_eq_true rfl) dX7_hasTwice_81 (gx_C.mono k ?_)
    rintro _ X81 ⟨r81, rfl, k⟩
    refine ⟨r81, rfl, ?_⟩
    refine gx_istore_n (L' := [(3, .int r81), (0, .ref (gm_am θ)), (1, .int x1), (2, .int x2), (4, .int x4)]) h (by decide) rfl dX7_hasTwice_84 ?_
    refine gx_goto (tgt := 30) h (by decide) dX7_hasTwice_85 ?_
    exact gx_sub [1, 2, 3, 0] rfl k
  · replace k := k.2 c
    refine gx_aload_n h 0 rfl dX7_hasTwice_51 ?_
    refine gx_iload_n h 1 rfl dX7_hasTwice_52 ?_
    refine gx_iload_n h 3 rfl dX7_hasTwice_53 ?_
    refine gx_iload_n h 1 rfl dX7_hasTwice_54 ?_
    refine gx_iload h 4 rfl dX7_hasTwice_55 ?_
    refine gx_iconst (v := 3) h dX7_hasTwice_57 (by decide) ?_
    refine gm_c_isLike h rfl ⟨Nat.le_of_ble_eq_true rfl, Nat.le_of_ble_eq_true rfl⟩ (Nat.le_of_ble_eq_true rfl) dX7_hasTwice_58 (gx_C.mono k ?_)
    rintro _ X58 ⟨r58, rfl, k⟩
    refine ⟨r58, rfl, ?_⟩
    refine gx_if_eq (tgt := 66) h (by decide) dX7_hasTwice_61 (fun c => ?_) (fun c => ?_)
    · replace k := k.1 c
      refine gx_aload_n h 0 rfl dX7_hasTwice_66 ?_
      refine gx_iload_n h 1 rfl dX7_hasTwice_67 ?_
      refine gx_iload h 4 rfl dX7_hasTwice_68 ?_
      refine gm_c_end h rfl ⟨Nat.le_of_ble_eq_true rfl, Nat.le_of_ble_eq_true rfl⟩ (Nat.le_of_ble_eq_true rfl) dX7_hasTwice_70 (gx_C.mono k ?_)
      rintro _ X70 ⟨r70, rfl, k⟩
      refine ⟨r70, rfl, ?_⟩
      refine gx_istore (L' := [(4, .int r70), (0, .ref (gm_am θ)), (1, .int x1), (2, .int x2), (3, .int x3)]) h (by decide) rfl dX7_hasTwice_73 ?_
      refine gx_goto (tgt := 45) h (by decide) dX7_hasTwice_75 ?_
      exact gx_sub [1, 2, 3, 4, 0] rfl k
    · replace k := k.2 c
      refine gx_iconst (v := 1) h dX7_hasTwice_64 (by decide) ?_
      exact gx_zret h rfl rfl dX7_hasTwice_65 ⟨_, rfl, k⟩
theorem bm_hasTwice_88 {θ : gm_T} {K : gx_K} {P : Int32 → gm_X → Prop} {X : gm_X} {x1 x2 : Int32} (h : gm_K θ K mX7_hasTwice) (k : gm_G θ K mX7_hasTwice (gm_Pi P) 2 [(0, .ref (gm_am θ)), (1, .int x1), (2, .int (x2 + 1))] [] X) : gm_G θ K mX7_hasTwice (gm_Pi P) 88 [(0, .ref (gm_am θ)), (1, .int x1), (2, .int x2)] [] X := by
  refine gx_iinc (v := x2 + 1) (L' := [(2, .int (x2 + 1)), (0, .ref (gm_am θ)), (1, .int x1)]) h 2 rfl rfl (by decide) rfl dX7_hasTwice_88 ?_
  refine gx_goto (tgt := 2) h (by decide) dX7_hasTwice_91 ?_
  exact gx_sub [1, 2, 0] rfl k
/-! take -/
theorem em_take {θ : gm_T} {P : Int32 → gm_X → Prop} {X : gm_X} {x1 : Int32} {x2 : Int32} (body : ∀ K, gm_K θ K mX7_take → gm_G θ K mX7_take (gm_Pi P) 0 [(0, .ref (gm_am θ)), (1, .int x1), (2, .int x2)] [] X) : gx_C (gm_O θ) mX7_take [.ref (gm_am θ), .int x1, .int x2] X (gm_Pi P) :=
  gx_C.intro (gm_z θ) (by decide) (Nat.le_of_ble_eq_true rfl) body
theorem bm_take_0 {θ : gm_T} {K : gx_K} {P : Int32 → gm_X → Prop} {X : gm_X} {x1 x2 : Int32} (h : gm_K θ K mX7_take) (k : gx_C (gm_O θ) mX7_lacks [.ref (gm_am θ), .int x1] X (gm_Pi (fun r2 X2 => ((0 ≤ r2 → gx_C (gm_O θ) mX7_named [.ref (gm_am θ), .int x1, .int x2] X2 (gm_Pi (fun r19 X19 => ((0 ≤ r19 → ((r19 = 0 → gx_C (gm_O θ) mX7_found0 [.ref (gm_am θ), .int (-7)] X19 (gm_Pi (fun r44 X44 => P r44 X44))) ∧ (¬ r19 = 0 → gx_C (gm_O θ) mX7_children [.ref (gm_am θ), .int x1, .int r19] X19 (gm_Pi (fun r52 X52 => gx_C (gm_O θ) mX7_end [.ref (gm_am θ), .int x1, .int r19] X52 (gm_Pi (fun r61 X61 => vp_in 9 11 ∧ ∀ X73, X73 = gm_pA X61 1 (9 : Int32).toNatClampNeg 0 → gm_G θ K mX7_take (gm_Pi P) 77 [(0, .ref (gm_am θ)), (1, .int x1), (4, .int r19), (5, .int r52), (6, .int r61), (7, .int 0)] [] X73))))))) ∧ (¬ 0 ≤ r19 → gx_C (gm_O θ) mX7_found0 [.ref (gm_am θ), .int (-6)] X19 (gm_Pi (fun r32 X32 => P r32 X32))))))) ∧ (¬ 0 ≤ r2 → gx_C (gm_O θ) mX7_found0 [.ref (gm_am θ), .int r2] X2 (gm_Pi (fun r12 X12 => P r12 X12))))))) : gm_G θ K mX7_take (gm_Pi P) 0 [(0, .ref (gm_am θ)), (1, .int x1), (2, .int x2)] [] X := by
  refine gx_aload_n h 0 rfl dX7_take_0 ?_
  refine gx_iload_n h 1 rfl dX7_take_1 ?_
  refine gm_c_lacks h rfl ⟨Nat.le_of_ble_eq_true rfl, Nat.le_of_ble_eq_true rfl⟩ (Nat.le_of_ble_eq_true rfl) dX7_take_2 (gx_C.mono k ?_)
  rintro _ X2 ⟨r2, rfl, k⟩
  refine ⟨r2, rfl, ?_⟩
  refine gx_istore_n (L' := [(3, .int r2), (0, .ref (gm_am θ)), (1, .int x1), (2, .int x2)]) h (by decide) rfl dX7_take_5 ?_
  refine gx_iload_n h 0 rfl dX7_take_6 ?_
  refine gx_if_ge (tgt := 16) h (by decide) dX7_take_7 (fun c => ?_) (fun c => ?_)
  · replace k := k.1 c
    refine gx_aload_n h 1 rfl dX7_take_16 ?_
    refine gx_iload_n h 2 rfl dX7_take_17 ?_
    refine gx_iload_n h 3 rfl dX7_take_18 ?_
    refine gm_c_named h rfl ⟨Nat.le_of_ble_eq_true rfl, Nat.le_of_ble_eq_true rfl⟩ (Nat.le_of_ble_eq_true rfl) dX7_take_19 (gx_C.mono k ?_)
    rintro _ X19 ⟨r19, rfl, k⟩
    refine ⟨r19, rfl, ?_⟩
    refine gx_istore (L' := [(4, .int r19), (3, .int r2), (0, .ref (gm_am θ)), (1, .int x1), (2, .int x2)]) h (by decide) rfl dX7_take_22 ?_
    refine gx_iload h 0 rfl dX7_take_24 ?_
    refine gx_if_ge (tgt := 36) h (by decide) dX7_take_26 (fun c => ?_) (fun c => ?_)
    · replace k := k.1 c
      refine gx_iload h 0 rfl dX7_take_36 ?_
      refine gx_if_ne (tgt := 48) h (by decide) dX7_take_38 (fun c => ?_) (fun c => ?_)
      · replace k := k.2 c
        refine gx_aload_n h 2 rfl dX7_take_48 ?_
        refine gx_iload_n h 3 rfl dX7_take_49 ?_
        refine gx_iload h 0 rfl dX7_take_50 ?_
        refine gm_c_children h rfl ⟨Nat.le_of_ble_eq_true rfl, Nat.le_of_ble_eq_true rfl⟩ (Nat.le_of_ble_eq_true rfl) dX7_take_52 (gx_C.mono k ?_)
        rintro _ X52 ⟨r52, rfl, k⟩
        refine ⟨r52, rfl, ?_⟩
        refine gx_istore (L' := [(5, .int r52), (4, .int r19), (3, .int r2), (0, .ref (gm_am θ)), (1, .int x1), (2, .int x2)]) h (by decide) rfl dX7_take_55 ?_
        refine gx_aload_n h 3 rfl dX7_take_57 ?_
        refine gx_iload_n h 4 rfl dX7_take_58 ?_
        refine gx_iload h 1 rfl dX7_take_59 ?_
        refine gm_c_end h rfl ⟨Nat.le_of_ble_eq_true rfl, Nat.le_of_ble_eq_true rfl⟩ (Nat.le_of_ble_eq_true rfl) dX7_take_61 (gx_C.mono k ?_)
        rintro _ X61 ⟨r61, rfl, k⟩
        refine ⟨r61, rfl, ?_⟩
        refine gx_istore (L' := [(6, .int r61), (5, .int r52), (4, .int r19), (3, .int r2), (0, .ref (gm_am θ)), (1, .int x1), (2, .int x2)]) h (by decide) rfl dX7_take_64 ?_
        refine gx_aload_n h 4 rfl dX7_take_66 ?_
        refine gm_get1 h rfl dX7_take_67 ?_
        refine gx_bipush (v := 9) h dX7_take_70 (by decide) ?_
        refine gx_iconst (v := 0) h dX7_take_72 (by decide) ?_
        refine gm_st1 h k.1 dX7_take_73 ?_
        generalize hz : gm_pA X61 1 (9 : Int32).toNatClampNeg 0 = X73
        replace k := k.2 X73 hz.symm
        refine gx_iconst (v := 0) h dX7_take_74 (by decide) ?_
        refine gx_istore (L' := [(7, .int 0), (6, .int r61), (5, .int r52), (4, .int r19), (3, .int r2), (0, .ref (gm_am θ)), (1, .int x1), (2, .int x2)]) h (by decide) rfl dX7_take_75 ?_
        exact gx_sub [5, 6, 3, 2, 1, 0] rfl k
      · replace k := k.1 c
        refine gx_aload_n h 2 rfl dX7_take_41 ?_
        refine gx_bipush (v := (-7)) h dX7_take_42 (by decide) ?_
        refine gm_c_found0 h rfl ⟨Nat.le_of_ble_eq_true rfl, Nat.le_of_ble_eq_true rfl⟩ (Nat.le_of_ble_eq_true rfl) dX7_take_44 (gx_C.mono k ?_)
        rintro _ X44 ⟨r44, rfl, k⟩
        refine ⟨r44, rfl, ?_⟩
        exact gx_iret h rfl dX7_take_47 ⟨_, rfl, k⟩
    · replace k := k.2 c
      refine gx_aload_n h 2 rfl dX7_take_29 ?_
      refine gx_bipush (v := (-6)) h dX7_take_30 (by decide) ?_
      refine gm_c_found0 h rfl ⟨Nat.le_of_ble_eq_true rfl, Nat.le_of_ble_eq_true rfl⟩ (Nat.le_of_ble_eq_true rfl) dX7_take_32 (gx_C.mono k ?_)
      rintro _ X32 ⟨r32, rfl, k⟩
      refine ⟨r32, rfl, ?_⟩
      exact gx_iret h rfl dX7_take_35 ⟨_, rfl, k⟩
  · replace k := k.2 c
    refine gx_aload_n h 1 rfl dX7_take_10 ?_
    refine gx_iload_n h 0 rfl dX7_take_11 ?_
    refine gm_c_found0 h rfl ⟨Nat.le_of_ble_eq_true rfl, Nat.le_of_ble_eq_true rfl⟩ (Nat.le_of_ble_eq_true rfl) dX7_take_12 (gx_C.mono k ?_)
    rintro _ X12 ⟨r12, rfl, k⟩
    refine ⟨r12, rfl, ?_⟩
    exact gx_iret h rfl dX7_take_15 ⟨_, rfl, k⟩
theorem bm_take_77 {θ : gm_T} {K : gx_K} {P : Int32 → gm_X → Prop} {X : gm_X} {x1 x4 x5 x6 x7 : Int32} (h : gm_K θ K mX7_take) (k : vp_in x1 11 ∧ (((X.2 1 x1.toNatClampNeg) ≤ x7 → gx_C (gm_O θ) mX7_hasTwice [.ref (gm_am θ), .int 9] X (gm_Pi (fun r171 X171 => ((r171 = 0 → gx_C (gm_O θ) mX7_copyAll [.ref (gm_am θ), .int 9, .int x1] X171 (gm_Pv (fun X188 => P x5 X188))) ∧ (¬ r171 = 0 → gx_C (gm_O θ) mX7_found0 [.ref (gm_am θ), .int (-4)] X171 (gm_Pi (fun r180 X180 => P r180 X180))))))) ∧ (¬ (X.2 1 x1.toNatClampNeg) ≤ x7 → ((x7 = x4 → gm_G θ K mX7_take (gm_Pi P) 162 [(0, .ref (gm_am θ)), (1, .int x1), (4, .int x4), (5, .int x5), (6, .int x6), (7, .int x7)] [] X) ∧ (¬ x7 = x4 → vp_in 9 11 ∧ gx_C (gm_O θ) mX7_carry [.ref (gm_am θ), .int x1, .int x7, .int 9, .int (X.2 1 (9 : Int32).toNatClampNeg)] X (gm_Pv (fun X111 => ((x7 ≤ x4 → gm_G θ K mX7_take (gm_Pi P) 151 [(0, .ref (gm_am θ)), (1, .int x1), (4, .int x4), (5, .int x5), (6, .int x6), (7, .int x7)] [] X111) ∧ (¬ x7 ≤ x4 → ((x6 ≤ x7 → gm_G θ K mX7_take (gm_Pi P) 151 [(0, .ref (gm_am θ)), (1, .int x1), (4, .int x4), (5, .int x5), (6, .int x6), (7, .int x7)] [] X111) ∧ (¬ x6 ≤ x7 → vp_in 9 11 ∧ gx_C (gm_O θ) mX7_deep [.ref (gm_am θ), .int x1, .int x7] X111 (gm_Pi (fun r143 X143 => gx_C (gm_O θ) mX7_set [.ref (gm_am θ), .int 9, .int (X111.2 1 (9 : Int32).toNatClampNeg), .int 2, .int (r143 - 1)] X143 (gm_Pv (fun X148 => gm_G θ K mX7_take (gm_Pi P) 151 [(0, .ref (gm_am θ)), (1, .int x1), (4, .int x4), (5, .int x5), (6, .int x6), (7, .int x7)] [] X148))))))))))))))) : gm_G θ K mX7_take (gm_Pi P) 77 [(0, .ref (gm_am θ)), (1, .int x1), (4, .int x4), (5, .int x5), (6, .int x6), (7, .int x7)] [] X := by
  refine gx_iload h 5 rfl dX7_take_77 ?_
  refine gx_aload_n h 0 rfl dX7_take_79 ?_
  refine gm_get1 h rfl dX7_take_80 ?_
  refine gx_iload_n h 1 rfl dX7_take_83 ?_
  refine gm_ld1 h k.1 dX7_take_84 ?_
  replace k := k.2
  refine gx_icmp_ge (tgt := 168) h (by decide) dX7_take_85 (fun c => ?_) (fun c => ?_)
  · replace k := k.1 c
    refine gx_aload_n h 0 rfl dX7_take_168 ?_
    refine gx_bipush (v := 9) h dX7_take_169 (by decide) ?_
    refine gm_c_hasTwice h rfl ⟨Nat.le_of_ble_eq_true rfl, Nat.le_of_ble_eq_true rfl⟩ (Nat.le_of_ble_eq_true rfl) dX7_take_171 (gx_C.mono k ?_)
    rintro _ X171 ⟨r171, rfl, k⟩
    refine ⟨r171, rfl, ?_⟩
    refine gx_if_eq (tgt := 184) h (by decide) dX7_take_174 (fun c => ?_) (fun c => ?_)
    · replace k := k.1 c
      refine gx_aload_n h 0 rfl dX7_take_184 ?_
      refine gx_bipush (v := 9) h dX7_take_185 (by decide) ?_
      refine gx_iload_n h 1 rfl dX7_take_187 ?_
      refine gm_c_copyAll h rfl ⟨Nat.le_of_ble_eq_true rfl, Nat.le_of_ble_eq_true rfl⟩ (Nat.le_of_ble_eq_true rfl) dX7_take_188 (gx_C.mono k ?_)
      rintro _ X188 ⟨rfl, k⟩
      refine ⟨rfl, ?_⟩
      refine gx_iload h 3 rfl dX7_take_191 ?_
      exact gx_iret h rfl dX7_take_193 ⟨_, rfl, k⟩
    · replace k := k.2 c
      refine gx_aload_n h 0 rfl dX7_take_177 ?_
      refine gx_bipush (v := (-4)) h dX7_take_178 (by decide) ?_
      refine gm_c_found0 h rfl ⟨Nat.le_of_ble_eq_true rfl, Nat.le_of_ble_eq_true rfl⟩ (Nat.le_of_ble_eq_true rfl) dX7_take_180 (gx_C.mono k ?_)
      rintro _ X180 ⟨r180, rfl, k⟩
      refine ⟨r180, rfl, ?_⟩
      exact gx_iret h rfl dX7_take_183 ⟨_, rfl, k⟩
  · replace k := k.2 c
    refine gx_iload h 5 rfl dX7_take_88 ?_
    refine gx_iload h 2 rfl dX7_take_90 ?_
    refine gx_icmp_ne (tgt := 98) h (by decide) dX7_take_92 (fun c => ?_) (fun c => ?_)
    · replace k := k.2 c
      refine gx_aload_n h 0 rfl dX7_take_98 ?_
      refine gx_iload_n h 1 rfl dX7_take_99 ?_
      refine gx_iload h 5 rfl dX7_take_100 ?_
      refine gx_bipush (v := 9) h dX7_take_102 (by decide) ?_
      refine gx_aload_n h 0 rfl dX7_take_104 ?_
      refine gm_get1 h rfl dX7_take_105 ?_
      refine gx_bipush (v := 9) h dX7_take_108 (by decide) ?_
      refine gm_ld1 h k.1 dX7_take_110 ?_
      replace k := k.2
      refine gm_c_carry h rfl ⟨Nat.le_of_ble_eq_true rfl, Nat.le_of_ble_eq_true rfl⟩ (Nat.le_of_ble_eq_true rfl) dX7_take_111 (gx_C.mono k ?_)
      rintro _ X111 ⟨rfl, k⟩
      refine ⟨rfl, ?_⟩
      refine gx_iload h 5 rfl dX7_take_114 ?_
      refine gx_iload h 2 rfl dX7_take_116 ?_
      refine gx_icmp_le (tgt := 151) h (by decide) dX7_take_118 (fun c => ?_) (fun c => ?_)
      · replace k := k.1 c
        exact k
      · replace k := k.2 c
        refine gx_iload h 5 rfl dX7_take_121 ?_
        refine gx_iload h 4 rfl dX7_take_123 ?_
        refine gx_icmp_ge (tgt := 151) h (by decide) dX7_take_125 (fun c => ?_) (fun c => ?_)
        · replace k := k.1 c
          exact k
        · replace k := k.2 c
          refine gx_aload_n h 0 rfl dX7_take_128 ?_
          refine gx_bipush (v := 9) h dX7_take_129 (by decide) ?_
          refine gx_aload_n h 0 rfl dX7_take_131 ?_
          refine gm_get1 h rfl dX7_take_132 ?_
          refine gx_bipush (v := 9) h dX7_take_135 (by decide) ?_
          refine gm_ld1 h k.1 dX7_take_137 ?_
          replace k := k.2
          refine gx_iconst (v := 2) h dX7_take_138 (by decide) ?_
          refine gx_aload_n h 0 rfl dX7_take_139 ?_
          refine gx_iload_n h 1 rfl dX7_take_140 ?_
          refine gx_iload h 5 rfl dX7_take_141 ?_
          refine gm_c_deep h rfl ⟨Nat.le_of_ble_eq_true rfl, Nat.le_of_ble_eq_true rfl⟩ (Nat.le_of_ble_eq_true rfl) dX7_take_143 (gx_C.mono k ?_)
          rintro _ X143 ⟨r143, rfl, k⟩
          refine ⟨r143, rfl, ?_⟩
          refine gx_iconst (v := 1) h dX7_take_146 (by decide) ?_
          refine gx_isub h dX7_take_147 ?_
          refine gm_c_set h rfl ⟨Nat.le_of_ble_eq_true rfl, Nat.le_of_ble_eq_true rfl⟩ (Nat.le_of_ble_eq_true rfl) dX7_take_148 (gx_C.mono k ?_)
          rintro _ X148 ⟨rfl, k⟩
          refine ⟨rfl, ?_⟩
          exact k
    · replace k := k.1 c
      refine gx_goto (tgt := 162) h (by decide) dX7_take_95 ?_
      exact k
theorem bm_take_151 {θ : gm_T} {K : gx_K} {P : Int32 → gm_X → Prop} {X : gm_X} {x1 x4 x5 x6 x7 : Int32} (h : gm_K θ K mX7_take) (k : vp_in 9 11 ∧ vp_in 9 11 ∧ ∀ X161, X161 = gm_pA X 1 (9 : Int32).toNatClampNeg ((X.2 1 (9 : Int32).toNatClampNeg) + 1) → gm_G θ K mX7_take (gm_Pi P) 162 [(0, .ref (gm_am θ)), (1, .int x1), (4, .int x4), (5, .int x5), (6, .int x6), (7, .int x7)] [] X161) : gm_G θ K mX7_take (gm_Pi P) 151 [(0, .ref (gm_am θ)), (1, .int x1), (4, .int x4), (5, .int x5), (6, .int x6), (7, .int x7)] [] X := by
  refine gx_aload_n h 0 rfl dX7_take_151 ?_
  refine gm_get1 h rfl dX7_take_152 ?_
  refine gx_bipush (v := 9) h dX7_take_155 (by decide) ?_
  refine gx_dup2 h rfl rfl dX7_take_157 ?_
  refine gm_ld1 h k.1 dX7_take_158 ?_
  replace k := k.2
  refine gx_iconst (v := 1) h dX7_take_159 (by decide) ?_
  refine gx_iadd h dX7_take_160 ?_
  refine gm_st1 h k.1 dX7_take_161 ?_
  generalize hz : gm_pA X 1 (9 : Int32).toNatClampNeg ((X.2 1 (9 : Int32).toNatClampNeg) + 1) = X161
  replace k := k.2 X161 hz.symm
  exact k
theorem bm_take_162 {θ : gm_T} {K : gx_K} {P : Int32 → gm_X → Prop} {X : gm_X} {x1 x4 x5 x6 x7 : Int32} (h : gm_K θ K mX7_take) (k : gm_G θ K mX7_take (gm_Pi P) 77 [(0, .ref (gm_am θ)), (1, .int x1), (4, .int x4), (5, .int x5), (6, .int x6), (7, .int (x7 + 1))] [] X) : gm_G θ K mX7_take (gm_Pi P) 162 [(0, .ref (gm_am θ)), (1, .int x1), (4, .int x4), (5, .int x5), (6, .int x6), (7, .int x7)] [] X := by
  refine gx_iinc (v := x7 + 1) (L' := [(7, .int (x7 + 1)), (0, .ref (gm_am θ)), (1, .int x1), (4, .int x4), (5, .int x5), (6, .int x6)]) h 5 rfl rfl (by decide) rfl dX7_take_162 ?_
  refine gx_goto (tgt := 77) h (by decide) dX7_take_165 ?_
  exact gx_sub [1, 2, 3, 4, 5, 0] rfl k
/-! move -/
theorem em_move {θ : gm_T} {P : Int32 → gm_X → Prop} {X : gm_X} {x1 : Int32} {x2 : Int32} {x3 : Int32} {x4 : Int32} (body : ∀ K, gm_K θ K mX7_move → gm_G θ K mX7_move (gm_Pi P) 0 [(0, .ref (gm_am θ)), (1, .int x1), (2, .int x2), (3, .int x3), (4, .int x4)] [] X) : gx_C (gm_O θ) mX7_move [.ref (gm_am θ), .int x1, .int x2, .int x3, .int x4] X (gm_Pi P) :=
  gx_C.intro (gm_z θ) (by decide) (Nat.le_of_ble_eq_true rfl) body
theorem bm_move_0 {θ : gm_T} {K : gx_K} {P : Int32 → gm_X → Prop} {X : gm_X} {x1 x2 x3 x4 : Int32} (h : gm_K θ K mX7_move) (k : gx_C (gm_O θ) mX7_lacks [.ref (gm_am θ), .int x1] X (gm_Pi (fun r2 X2 => ((0 ≤ r2 → gx_C (gm_O θ) mX7_named [.ref (gm_am θ), .int x1, .int x2] X2 (gm_Pi (fun r22 X22 => ((0 ≤ r22 → ((r22 = 0 → gx_C (gm_O θ) mX7_found0 [.ref (gm_am θ), .int (-7)] X22 (gm_Pi (fun r47 X47 => P r47 X47))) ∧ (¬ r22 = 0 → gx_C (gm_O θ) mX7_named [.ref (gm_am θ), .int x1, .int x3] X22 (gm_Pi (fun r54 X54 => ((0 ≤ r54 → gx_C (gm_O θ) mX7_of [.ref (gm_am θ), .int x1, .int r54, .int 1] X54 (gm_Pi (fun r76 X76 => ((r76 = 3 → gx_C (gm_O θ) mX7_found0 [.ref (gm_am θ), .int (-3)] X76 (gm_Pi (fun r86 X86 => P r86 X86))) ∧ (¬ r76 = 3 → gx_C (gm_O θ) mX7_end [.ref (gm_am θ), .int x1, .int r22] X76 (gm_Pi (fun r94 X94 => ((r54 < r22 → gm_G θ K mX7_move (gm_Pi P) 120 [(0, .ref (gm_am θ)), (1, .int x1), (3, .int x3), (4, .int x4), (6, .int r22), (8, .int r94)] [] X94) ∧ (¬ r54 < r22 → ((r94 ≤ r54 → gm_G θ K mX7_move (gm_Pi P) 120 [(0, .ref (gm_am θ)), (1, .int x1), (3, .int x3), (4, .int x4), (6, .int r22), (8, .int r94)] [] X94) ∧ (¬ r94 ≤ r54 → gx_C (gm_O θ) mX7_found0 [.ref (gm_am θ), .int (-7)] X94 (gm_Pi (fun r116 X116 => P r116 X116))))))))))))) ∧ (¬ 0 ≤ r54 → gx_C (gm_O θ) mX7_found0 [.ref (gm_am θ), .int (-6)] X54 (gm_Pi (fun r67 X67 => P r67 X67))))))))) ∧ (¬ 0 ≤ r22 → gx_C (gm_O θ) mX7_found0 [.ref (gm_am θ), .int (-6)] X22 (gm_Pi (fun r35 X35 => P r35 X35))))))) ∧ (¬ 0 ≤ r2 → gx_C (gm_O θ) mX7_found0 [.ref (gm_am θ), .int r2] X2 (gm_Pi (fun r15 X15 => P r15 X15))))))) : gm_G θ K mX7_move (gm_Pi P) 0 [(0, .ref (gm_am θ)), (1, .int x1), (2, .int x2), (3, .int x3), (4, .int x4)] [] X := by
  refine gx_aload_n h 0 rfl dX7_move_0 ?_
  refine gx_iload_n h 1 rfl dX7_move_1 ?_
  refine gm_c_lacks h rfl ⟨Nat.le_of_ble_eq_true rfl, Nat.le_of_ble_eq_true rfl⟩ (Nat.le_of_ble_eq_true rfl) dX7_move_2 (gx_C.mono k ?_)
  rintro _ X2 ⟨r2, rfl, k⟩
  refine ⟨r2, rfl, ?_⟩
  refine gx_istore (L' := [(5, .int r2), (0, .ref (gm_am θ)), (1, .int x1), (2, .int x2), (3, .int x3), (4, .int x4)]) h (by decide) rfl dX7_move_5 ?_
  refine gx_iload h 0 rfl dX7_move_7 ?_
  refine gx_if_ge (tgt := 19) h (by decide) dX7_move_9 (fun c => ?_) (fun c => ?_)
  · replace k := k.1 c
    refine gx_aload_n h 1 rfl dX7_move_19 ?_
    refine gx_iload_n h 2 rfl dX7_move_20 ?_
    refine gx_iload_n h 3 rfl dX7_move_21 ?_
    refine gm_c_named h rfl ⟨Nat.le_of_ble_eq_true rfl, Nat.le_of_ble_eq_true rfl⟩ (Nat.le_of_ble_eq_true rfl) dX7_move_22 (gx_C.mono k ?_)
    rintro _ X22 ⟨r22, rfl, k⟩
    refine ⟨r22, rfl, ?_⟩
    refine gx_istore (L' := [(6, .int r22), (5, .int r2), (0, .ref (gm_am θ)), (1, .int x1), (2, .int x2), (3, .int x3), (4, .int x4)]) h (by decide) rfl dX7_move_25 ?_
    refine gx_iload h 0 rfl dX7_move_27 ?_
    refine gx_if_ge (tgt := 39) h (by decide) dX7_move_29 (fun c => ?_) (fun c => ?_)
    · replace k := k.1 c
      refine gx_iload h 0 rfl dX7_move_39 ?_
      refine gx_if_ne (tgt := 51) h (by decide) dX7_move_41 (fun c => ?_) (fun c => ?_)
      · replace k := k.2 c
        refine gx_aload_n h 2 rfl dX7_move_51 ?_
        refine gx_iload_n h 3 rfl dX7_move_52 ?_
        refine gx_iload_n h 5 rfl dX7_move_53 ?_
        refine gm_c_named h rfl ⟨Nat.le_of_ble_eq_true rfl, Nat.le_of_ble_eq_true rfl⟩ (Nat.le_of_ble_eq_true rfl) dX7_move_54 (gx_C.mono k ?_)
        rintro _ X54 ⟨r54, rfl, k⟩
        refine ⟨r54, rfl, ?_⟩
        refine gx_istore (L' := [(7, .int r54), (6, .int r22), (5, .int r2), (0, .ref (gm_am θ)), (1, .int x1), (2, .int x2), (3, .int x3), (4, .int x4)]) h (by decide) rfl dX7_move_57 ?_
        refine gx_iload h 0 rfl dX7_move_59 ?_
        refine gx_if_ge (tgt := 71) h (by decide) dX7_move_61 (fun c => ?_) (fun c => ?_)
        · replace k := k.1 c
          refine gx_aload_n h 3 rfl dX7_move_71 ?_
          refine gx_iload_n h 4 rfl dX7_move_72 ?_
          refine gx_iload h 0 rfl dX7_move_73 ?_
          refine gx_iconst (v := 1) h dX7_move_75 (by decide) ?_
          refine gm_c_of h rfl ⟨Nat.le_of_ble_eq_true rfl, Nat.le_of_ble_eq_true rfl⟩ (Nat.le_of_ble_eq_true rfl) dX7_move_76 (gx_C.mono k ?_)
          rintro _ X76 ⟨r76, rfl, k⟩
          refine ⟨r76, rfl, ?_⟩
          refine gx_iconst (v := 3) h dX7_move_79 (by decide) ?_
          refine gx_icmp_ne (tgt := 90) h (by decide) dX7_move_80 (fun c => ?_) (fun c => ?_)
          · replace k := k.2 c
            refine gx_aload_n h 3 rfl dX7_move_90 ?_
            refine gx_iload_n h 4 rfl dX7_move_91 ?_
            refine gx_iload h 1 rfl dX7_move_92 ?_
            refine gm_c_end h rfl ⟨Nat.le_of_ble_eq_true rfl, Nat.le_of_ble_eq_true rfl⟩ (Nat.le_of_ble_eq_true rfl) dX7_move_94 (gx_C.mono k ?_)
            rintro _ X94 ⟨r94, rfl, k⟩
            refine ⟨r94, rfl, ?_⟩
            refine gx_istore (L' := [(8, .int r94), (7, .int r54), (6, .int r22), (5, .int r2), (0, .ref (gm_am θ)), (1, .int x1), (2, .int x2), (3, .int x3), (4, .int x4)]) h (by decide) rfl dX7_move_97 ?_
            refine gx_iload h 1 rfl dX7_move_99 ?_
            refine gx_iload h 2 rfl dX7_move_101 ?_
            refine gx_icmp_lt (tgt := 120) h (by decide) dX7_move_103 (fun c => ?_) (fun c => ?_)
            · replace k := k.1 c
              exact gx_sub [4, 5, 7, 8, 2, 0] rfl k
            · replace k := k.2 c
              refine gx_iload h 1 rfl dX7_move_106 ?_
              refine gx_iload h 0 rfl dX7_move_108 ?_
              refine gx_icmp_ge (tgt := 120) h (by decide) dX7_move_110 (fun c => ?_) (fun c => ?_)
              · replace k := k.1 c
                exact gx_sub [4, 5, 7, 8, 2, 0] rfl k
              · replace k := k.2 c
                refine gx_aload_n h 4 rfl dX7_move_113 ?_
                refine gx_bipush (v := (-7)) h dX7_move_114 (by decide) ?_
                refine gm_c_found0 h rfl ⟨Nat.le_of_ble_eq_true rfl, Nat.le_of_ble_eq_true rfl⟩ (Nat.le_of_ble_eq_true rfl) dX7_move_116 (gx_C.mono k ?_)
                rintro _ X116 ⟨r116, rfl, k⟩
                refine ⟨r116, rfl, ?_⟩
                exact gx_iret h rfl dX7_move_119 ⟨_, rfl, k⟩
          · replace k := k.1 c
            refine gx_aload_n h 3 rfl dX7_move_83 ?_
            refine gx_bipush (v := (-3)) h dX7_move_84 (by decide) ?_
            refine gm_c_found0 h rfl ⟨Nat.le_of_ble_eq_true rfl, Nat.le_of_ble_eq_true rfl⟩ (Nat.le_of_ble_eq_true rfl) dX7_move_86 (gx_C.mono k ?_)
            rintro _ X86 ⟨r86, rfl, k⟩
            refine ⟨r86, rfl, ?_⟩
            exact gx_iret h rfl dX7_move_89 ⟨_, rfl, k⟩
        · replace k := k.2 c
          refine gx_aload_n h 3 rfl dX7_move_64 ?_
          refine gx_bipush (v := (-6)) h dX7_move_65 (by decide) ?_
          refine gm_c_found0 h rfl ⟨Nat.le_of_ble_eq_true rfl, Nat.le_of_ble_eq_true rfl⟩ (Nat.le_of_ble_eq_true rfl) dX7_move_67 (gx_C.mono k ?_)
          rintro _ X67 ⟨r67, rfl, k⟩
          refine ⟨r67, rfl, ?_⟩
          exact gx_iret h rfl dX7_move_70 ⟨_, rfl, k⟩
      · replace k := k.1 c
        refine gx_aload_n h 2 rfl dX7_move_44 ?_
        refine gx_bipush (v := (-7)) h dX7_move_45 (by decide) ?_
        refine gm_c_found0 h rfl ⟨Nat.le_of_ble_eq_true rfl, Nat.le_of_ble_eq_true rfl⟩ (Nat.le_of_ble_eq_true rfl) dX7_move_47 (gx_C.mono k ?_)
        rintro _ X47 ⟨r47, rfl, k⟩
        refine ⟨r47, rfl, ?_⟩
        exact gx_iret h rfl dX7_move_50 ⟨_, rfl, k⟩
    · replace k := k.2 c
      refine gx_aload_n h 2 rfl dX7_move_32 ?_
      refine gx_bipush (v := (-6)) h dX7_move_33 (by decide) ?_
      refine gm_c_found0 h rfl ⟨Nat.le_of_ble_eq_true rfl, Nat.le_of_ble_eq_true rfl⟩ (Nat.le_of_ble_eq_true rfl) dX7_move_35 (gx_C.mono k ?_)
      rintro _ X35 ⟨r35, rfl, k⟩
      refine ⟨r35, rfl, ?_⟩
      exact gx_iret h rfl dX7_move_38 ⟨_, rfl, k⟩
  · replace k := k.2 c
    refine gx_aload_n h 1 rfl dX7_move_12 ?_
    refine gx_iload h 0 rfl dX7_move_13 ?_
    refine gm_c_found0 h rfl ⟨Nat.le_of_ble_eq_true rfl, Nat.le_of_ble_eq_true rfl⟩ (Nat.le_of_ble_eq_true rfl) dX7_move_15 (gx_C.mono k ?_)
    rintro _ X15 ⟨r15, rfl, k⟩
    refine ⟨r15, rfl, ?_⟩
    exact gx_iret h rfl dX7_move_18 ⟨_, rfl, k⟩
theorem bm_move_120 {θ : gm_T} {K : gx_K} {P : Int32 → gm_X → Prop} {X : gm_X} {x1 x3 x4 x6 x8 : Int32} (h : gm_K θ K mX7_move) (k : vp_in 9 11 ∧ ∀ X127, X127 = gm_pA X 1 (9 : Int32).toNatClampNeg 0 → gm_G θ K mX7_move (gm_Pi P) 131 [(0, .ref (gm_am θ)), (1, .int x1), (3, .int x3), (4, .int x4), (6, .int x6), (8, .int x8), (9, .int 0)] [] X127) : gm_G θ K mX7_move (gm_Pi P) 120 [(0, .ref (gm_am θ)), (1, .int x1), (3, .int x3), (4, .int x4), (6, .int x6), (8, .int x8)] [] X := by
  refine gx_aload_n h 0 rfl dX7_move_120 ?_
  refine gm_get1 h rfl dX7_move_121 ?_
  refine gx_bipush (v := 9) h dX7_move_124 (by decide) ?_
  refine gx_iconst (v := 0) h dX7_move_126 (by decide) ?_
  refine gm_st1 h k.1 dX7_move_127 ?_
  generalize hz : gm_pA X 1 (9 : Int32).toNatClampNeg 0 = X127
  replace k := k.2 X127 hz.symm
  refine gx_iconst (v := 0) h dX7_move_128 (by decide) ?_
  refine gx_istore (L' := [(9, .int 0), (0, .ref (gm_am θ)), (1, .int x1), (3, .int x3), (4, .int x4), (6, .int x6), (8, .int x8)]) h (by decide) rfl dX7_move_129 ?_
  exact gx_sub [1, 2, 3, 4, 5, 6, 0] rfl k
theorem bm_move_131 {θ : gm_T} {K : gx_K} {P : Int32 → gm_X → Prop} {X : gm_X} {x1 x3 x4 x6 x8 x9 : Int32} (h : gm_K θ K mX7_move) (k : vp_in x1 11 ∧ (((X.2 1 x1.toNatClampNeg) ≤ x9 → gx_C (gm_O θ) mX7_named [.ref (gm_am θ), .int 9, .int x3] X (gm_Pi (fun r196 X196 => ((x4 < 0 → gm_G θ K mX7_move (gm_Pi P) 219 [(0, .ref (gm_am θ))] [] X196) ∧ (¬ x4 < 0 → gx_C (gm_O θ) mX7_children [.ref (gm_am θ), .int 9, .int r196] X196 (gm_Pi (fun r213 X213 => ((x4 ≤ r213 → gx_C (gm_O θ) mX7_child [.ref (gm_am θ), .int 9, .int r196, .int x4] X213 (gm_Pi (fun r232 X232 => gx_C (gm_O θ) mX7_deep [.ref (gm_am θ), .int 9, .int r196] X232 (gm_Pi (fun r242 X242 => gx_C (gm_O θ) mX7_deep [.ref (gm_am θ), .int x1, .int x6] X242 (gm_Pi (fun r251 X251 => vp_in 10 11 ∧ ∀ X264, X264 = gm_pA X251 1 (10 : Int32).toNatClampNeg 0 → gm_G θ K mX7_move (gm_Pi P) 268 [(0, .ref (gm_am θ)), (1, .int x1), (6, .int x6), (8, .int x8), (10, .int r232), (11, .int ((r242 + 1) - r251)), (12, .int 0)] [] X264))))))) ∧ (¬ x4 ≤ r213 → gm_G θ K mX7_move (gm_Pi P) 219 [(0, .ref (gm_am θ))] [] X213))))))))) ∧ (¬ (X.2 1 x1.toNatClampNeg) ≤ x9 → ((x9 < x6 → gm_G θ K mX7_move (gm_Pi P) 159 [(0, .ref (gm_am θ)), (1, .int x1), (3, .int x3), (4, .int x4), (6, .int x6), (8, .int x8), (9, .int x9)] [] X) ∧ (¬ x9 < x6 → ((x8 ≤ x9 → gm_G θ K mX7_move (gm_Pi P) 159 [(0, .ref (gm_am θ)), (1, .int x1), (3, .int x3), (4, .int x4), (6, .int x6), (8, .int x8), (9, .int x9)] [] X) ∧ (¬ x8 ≤ x9 → gm_G θ K mX7_move (gm_Pi P) 186 [(0, .ref (gm_am θ)), (1, .int x1), (3, .int x3), (4, .int x4), (6, .int x6), (8, .int x8), (9, .int x9)] [] X))))))) : gm_G θ K mX7_move (gm_Pi P) 131 [(0, .ref (gm_am θ)), (1, .int x1), (3, .int x3), (4, .int x4), (6, .int x6), (8, .int x8), (9, .int x9)] [] X := by
  refine gx_iload h 6 rfl dX7_move_131 ?_
  refine gx_aload_n h 0 rfl dX7_move_133 ?_
  refine gm_get1 h rfl dX7_move_134 ?_
  refine gx_iload_n h 1 rfl dX7_move_137 ?_
  refine gm_ld1 h k.1 dX7_move_138 ?_
  replace k := k.2
  refine gx_icmp_ge (tgt := 192) h (by decide) dX7_move_139 (fun c => ?_) (fun c => ?_)
  · replace k := k.1 c
    refine gx_aload_n h 0 rfl dX7_move_192 ?_
    refine gx_bipush (v := 9) h dX7_move_193 (by decide) ?_
    refine gx_iload_n h 2 rfl dX7_move_195 ?_
    refine gm_c_named h rfl ⟨Nat.le_of_ble_eq_true rfl, Nat.le_of_ble_eq_true rfl⟩ (Nat.le_of_ble_eq_true rfl) dX7_move_196 (gx_C.mono k ?_)
    rintro _ X196 ⟨r196, rfl, k⟩
    refine ⟨r196, rfl, ?_⟩
    refine gx_istore (L' := [(9, .int r196), (0, .ref (gm_am θ)), (1, .int x1), (3, .int x3), (4, .int x4), (6, .int x6), (8, .int x8)]) h (by decide) rfl dX7_move_199 ?_
    refine gx_iload h 4 rfl dX7_move_201 ?_
    refine gx_if_lt (tgt := 219) h (by decide) dX7_move_203 (fun c => ?_) (fun c => ?_)
    · replace k := k.1 c
      exact gx_sub [1] rfl k
    · replace k := k.2 c
      refine gx_iload h 4 rfl dX7_move_206 ?_
      refine gx_aload_n h 1 rfl dX7_move_208 ?_
      refine gx_bipush (v := 9) h dX7_move_209 (by decide) ?_
      refine gx_iload h 0 rfl dX7_move_211 ?_
      refine gm_c_children h rfl ⟨Nat.le_of_ble_eq_true rfl, Nat.le_of_ble_eq_true rfl⟩ (Nat.le_of_ble_eq_true rfl) dX7_move_213 (gx_C.mono k ?_)
      rintro _ X213 ⟨r213, rfl, k⟩
      refine ⟨r213, rfl, ?_⟩
      refine gx_icmp_le (tgt := 225) h (by decide) dX7_move_216 (fun c => ?_) (fun c => ?_)
      · replace k := k.1 c
        refine gx_aload_n h 1 rfl dX7_move_225 ?_
        refine gx_bipush (v := 9) h dX7_move_226 (by decide) ?_
        refine gx_iload h 0 rfl dX7_move_228 ?_
        refine gx_iload h 4 rfl dX7_move_230 ?_
        refine gm_c_child h rfl ⟨Nat.le_of_ble_eq_true rfl, Nat.le_of_ble_eq_true rfl⟩ (Nat.le_of_ble_eq_true rfl) dX7_move_232 (gx_C.mono k ?_)
        rintro _ X232 ⟨r232, rfl, k⟩
        refine ⟨r232, rfl, ?_⟩
        refine gx_istore (L' := [(10, .int r232), (9, .int r196), (0, .ref (gm_am θ)), (1, .int x1), (3, .int x3), (4, .int x4), (6, .int x6), (8, .int x8)]) h (by decide) rfl dX7_move_235 ?_
        refine gx_aload_n h 2 rfl dX7_move_237 ?_
        refine gx_bipush (v := 9) h dX7_move_238 (by decide) ?_
        refine gx_iload h 1 rfl dX7_move_240 ?_
        refine gm_c_deep h rfl ⟨Nat.le_of_ble_eq_true rfl, Nat.le_of_ble_eq_true rfl⟩ (Nat.le_of_ble_eq_true rfl) dX7_move_242 (gx_C.mono k ?_)
        rintro _ X242 ⟨r242, rfl, k⟩
        refine ⟨r242, rfl, ?_⟩
        refine gx_iconst (v := 1) h dX7_move_245 (by decide) ?_
        refine gx_iadd h dX7_move_246 ?_
        refine gx_aload_n h 2 rfl dX7_move_247 ?_
        refine gx_iload_n h 3 rfl dX7_move_248 ?_
        refine gx_iload h 6 rfl dX7_move_249 ?_
        refine gm_c_deep h rfl ⟨Nat.le_of_ble_eq_true rfl, Nat.le_of_ble_eq_true rfl⟩ (Nat.le_of_ble_eq_true rfl) dX7_move_251 (gx_C.mono k ?_)
        rintro _ X251 ⟨r251, rfl, k⟩
        refine ⟨r251, rfl, ?_⟩
        refine gx_isub h dX7_move_254 ?_
        refine gx_istore (L' := [(11, .int ((r242 + 1) - r251)), (10, .int r232), (9, .int r196), (0, .ref (gm_am θ)), (1, .int x1), (3, .int x3), (4, .int x4), (6, .int x6), (8, .int x8)]) h (by decide) rfl dX7_move_255 ?_
        refine gx_aload_n h 3 rfl dX7_move_257 ?_
        refine gm_get1 h rfl dX7_move_258 ?_
        refine gx_bipush (v := 10) h dX7_move_261 (by decide) ?_
        refine gx_iconst (v := 0) h dX7_move_263 (by decide) ?_
        refine gm_st1 h k.1 dX7_move_264 ?_
        generalize hz : gm_pA X251 1 (10 : Int32).toNatClampNeg 0 = X264
        replace k := k.2 X264 hz.symm
        refine gx_iconst (v := 0) h dX7_move_265 (by decide) ?_
        refine gx_istore (L' := [(12, .int 0), (11, .int ((r242 + 1) - r251)), (10, .int r232), (9, .int r196), (0, .ref (gm_am θ)), (1, .int x1), (3, .int x3), (4, .int x4), (6, .int x6), (8, .int x8)]) h (by decide) rfl dX7_move_266 ?_
        exact gx_sub [4, 5, 8, 9, 2, 1, 0] rfl k
      · replace k := k.2 c
        exact gx_sub [1] rfl k
  · replace k := k.2 c
    refine gx_iload h 6 rfl dX7_move_142 ?_
    refine gx_iload h 4 rfl dX7_move_144 ?_
    refine gx_icmp_lt (tgt := 159) h (by decide) dX7_move_146 (fun c => ?_) (fun c => ?_)
    · replace k := k.1 c
      exact k
    · replace k := k.2 c
      refine gx_iload h 6 rfl dX7_move_149 ?_
      refine gx_iload h 5 rfl dX7_move_151 ?_
      refine gx_icmp_ge (tgt := 159) h (by decide) dX7_move_153 (fun c => ?_) (fun c => ?_)
      · replace k := k.1 c
        exact k
      · replace k := k.2 c
        refine gx_goto (tgt := 186) h (by decide) dX7_move_156 ?_
        exact k
theorem bm_move_159 {θ : gm_T} {K : gx_K} {P : Int32 → gm_X → Prop} {X : gm_X} {x1 x3 x4 x6 x8 x9 : Int32} (h : gm_K θ K mX7_move) (k : vp_in 9 11 ∧ gx_C (gm_O θ) mX7_carry [.ref (gm_am θ), .int x1, .int x9, .int 9, .int (X.2 1 (9 : Int32).toNatClampNeg)] X (gm_Pv (fun X172 => vp_in 9 11 ∧ vp_in 9 11 ∧ ∀ X185, X185 = gm_pA X172 1 (9 : Int32).toNatClampNeg ((X172.2 1 (9 : Int32).toNatClampNeg) + 1) → gm_G θ K mX7_move (gm_Pi P) 186 [(0, .ref (gm_am θ)), (1, .int x1), (3, .int x3), (4, .int x4), (6, .int x6), (8, .int x8), (9, .int x9)] [] X185))) : gm_G θ K mX7_move (gm_Pi P) 159 [(0, .ref (gm_am θ)), (1, .int x1), (3, .int x3), (4, .int x4), (6, .int x6), (8, .int x8), (9, .int x9)] [] X := by
  refine gx_aload_n h 0 rfl dX7_move_159 ?_
  refine gx_iload_n h 1 rfl dX7_move_160 ?_
  refine gx_iload h 6 rfl dX7_move_161 ?_
  refine gx_bipush (v := 9) h dX7_move_163 (by decide) ?_
  refine gx_aload_n h 0 rfl dX7_move_165 ?_
  refine gm_get1 h rfl dX7_move_166 ?_
  refine gx_bipush (v := 9) h dX7_move_169 (by decide) ?_
  refine gm_ld1 h k.1 dX7_move_171 ?_
  replace k := k.2
  refine gm_c_carry h rfl ⟨Nat.le_of_ble_eq_true rfl, Nat.le_of_ble_eq_true rfl⟩ (Nat.le_of_ble_eq_true rfl) dX7_move_172 (gx_C.mono k ?_)
  rintro _ X172 ⟨rfl, k⟩
  refine ⟨rfl, ?_⟩
  refine gx_aload_n h 0 rfl dX7_move_175 ?_
  refine gm_get1 h rfl dX7_move_176 ?_
  refine gx_bipush (v := 9) h dX7_move_179 (by decide) ?_
  refine gx_dup2 h rfl rfl dX7_move_181 ?_
  refine gm_ld1 h k.1 dX7_move_182 ?_
  replace k := k.2
  refine gx_iconst (v := 1) h dX7_move_183 (by decide) ?_
  refine gx_iadd h dX7_move_184 ?_
  refine gm_st1 h k.1 dX7_move_185 ?_
  generalize hz : gm_pA X172 1 (9 : Int32).toNatClampNeg ((X172.2 1 (9 : Int32).toNatClampNeg) + 1) = X185
  replace k := k.2 X185 hz.symm
  exact k
theorem bm_move_186 {θ : gm_T} {K : gx_K} {P : Int32 → gm_X → Prop} {X : gm_X} {x1 x3 x4 x6 x8 x9 : Int32} (h : gm_K θ K mX7_move) (k : gm_G θ K mX7_move (gm_Pi P) 131 [(0, .ref (gm_am θ)), (1, .int x1), (3, .int x3), (4, .int x4), (6, .int x6), (8, .int x8), (9, .int (x9 + 1))] [] X) : gm_G θ K mX7_move (gm_Pi P) 186 [(0, .ref (gm_am θ)), (1, .int x1), (3, .int x3), (4, .int x4), (6, .int x6), (8, .int x8), (9, .int x9)] [] X := by
  refine gx_iinc (v := x9 + 1) (L' := [(9, .int (x9 + 1)), (0, .ref (gm_am θ)), (1, .int x1), (3, .int x3), (4, .int x4), (6, .int x6), (8, .int x8)]) h 6 rfl rfl (by decide) rfl dX7_move_186 ?_
  refine gx_goto (tgt := 131) h (by decide) dX7_move_189 ?_
  exact gx_sub [1, 2, 3, 4, 5, 6, 0] rfl k
theorem bm_move_219 {θ : gm_T} {K : gx_K} {P : Int32 → gm_X → Prop} {X : gm_X} (h : gm_K θ K mX7_move) (k : gx_C (gm_O θ) mX7_found0 [.ref (gm_am θ), .int (-1)] X (gm_Pi (fun r221 X221 => P r221 X221))) : gm_G θ K mX7_move (gm_Pi P) 219 [(0, .ref (gm_am θ))] [] X := by
  refine gx_aload_n h 0 rfl dX7_move_219 ?_
  refine gx_iconst (v := (-1)) h dX7_move_220 (by decide) ?_
  refine gm_c_found0 h rfl ⟨Nat.le_of_ble_eq_true rfl, Nat.le_of_ble_eq_true rfl⟩ (Nat.le_of_ble_eq_true rfl) dX7_move_221 (gx_C.mono k ?_)
  rintro _ X221 ⟨r221, rfl, k⟩
  refine ⟨r221, rfl, ?_⟩
  exact gx_iret h rfl dX7_move_224 ⟨_, rfl, k⟩
theorem bm_move_268 {θ : gm_T} {K : gx_K} {P : Int32 → gm_X → Prop} {X : gm_X} {x1 x6 x8 x10 x11 x12 : Int32} (h : gm_K θ K mX7_move) (k : vp_in 9 11 ∧ (((X.2 1 (9 : Int32).toNatClampNeg) < x12 → gx_C (gm_O θ) mX7_isTooDeep [.ref (gm_am θ), .int 10] X (gm_Pi (fun r407 X407 => ((r407 = 0 → gx_C (gm_O θ) mX7_hasTwice [.ref (gm_am θ), .int 10] X407 (gm_Pi (fun r423 X423 => ((r423 = 0 → gx_C (gm_O θ) mX7_copyAll [.ref (gm_am θ), .int 10, .int x1] X423 (gm_Pv (fun X440 => P (x8 - x6) X440))) ∧ (¬ r423 = 0 → gx_C (gm_O θ) mX7_found0 [.ref (gm_am θ), .int (-4)] X423 (gm_Pi (fun r432 X432 => P r432 X432))))))) ∧ (¬ r407 = 0 → gx_C (gm_O θ) mX7_found0 [.ref (gm_am θ), .int (-5)] X407 (gm_Pi (fun r416 X416 => P r416 X416))))))) ∧ (¬ (X.2 1 (9 : Int32).toNatClampNeg) < x12 → gm_G θ K mX7_move (gm_Pi P) 284 [(0, .ref (gm_am θ)), (1, .int x1), (6, .int x6), (8, .int x8), (10, .int x10), (11, .int x11), (12, .int x12), (13, .int x6)] [] X))) : gm_G θ K mX7_move (gm_Pi P) 268 [(0, .ref (gm_am θ)), (1, .int x1), (6, .int x6), (8, .int x8), (10, .int x10), (11, .int x11), (12, .int x12)] [] X := by
  refine gx_iload h 6 rfl dX7_move_268 ?_
  refine gx_aload_n h 0 rfl dX7_move_270 ?_
  refine gm_get1 h rfl dX7_move_271 ?_
  refine gx_bipush (v := 9) h dX7_move_274 (by decide) ?_
  refine gm_ld1 h k.1 dX7_move_276 ?_
  replace k := k.2
  refine gx_icmp_gt (tgt := 404) h (by decide) dX7_move_277 (fun c => ?_) (fun c => ?_)
  · replace k := k.1 c
    refine gx_aload_n h 0 rfl dX7_move_404 ?_
    refine gx_bipush (v := 10) h dX7_move_405 (by decide) ?_
    refine gm_c_isTooDeep h rfl ⟨Nat.le_of_ble_eq_true rfl, Nat.le_of_ble_eq_true rfl⟩ (Nat.le_of_ble_eq_true rfl) dX7_move_407 (gx_C.mono k ?_)
    rintro _ X407 ⟨r407, rfl, k⟩
    refine ⟨r407, rfl, ?_⟩
    refine gx_if_eq (tgt := 420) h (by decide) dX7_move_410 (fun c => ?_) (fun c => ?_)
    · replace k := k.1 c
      refine gx_aload_n h 0 rfl dX7_move_420 ?_
      refine gx_bipush (v := 10) h dX7_move_421 (by decide) ?_
      refine gm_c_hasTwice h rfl ⟨Nat.le_of_ble_eq_true rfl, Nat.le_of_ble_eq_true rfl⟩ (Nat.le_of_ble_eq_true rfl) dX7_move_423 (gx_C.mono k ?_)
      rintro _ X423 ⟨r423, rfl, k⟩
      refine ⟨r423, rfl, ?_⟩
      refine gx_if_eq (tgt := 436) h (by decide) dX7_move_426 (fun c => ?_) (fun c => ?_)
      · replace k := k.1 c
        refine gx_aload_n h 0 rfl dX7_move_436 ?_
        refine gx_bipush (v := 10) h dX7_move_437 (by decide) ?_
        refine gx_iload_n h 1 rfl dX7_move_439 ?_
        refine gm_c_copyAll h rfl ⟨Nat.le_of_ble_eq_true rfl, Nat.le_of_ble_eq_true rfl⟩ (Nat.le_of_ble_eq_true rfl) dX7_move_440 (gx_C.mono k ?_)
        rintro _ X440 ⟨rfl, k⟩
        refine ⟨rfl, ?_⟩
        refine gx_iload h 3 rfl dX7_move_443 ?_
        refine gx_iload h 2 rfl dX7_move_445 ?_
        refine gx_isub h dX7_move_447 ?_
        exact gx_iret h rfl dX7_move_448 ⟨_, rfl, k⟩
      · replace k := k.2 c
        refine gx_aload_n h 0 rfl dX7_move_429 ?_
        refine gx_bipush (v := (-4)) h dX7_move_430 (by decide) ?_
        refine gm_c_found0 h rfl ⟨Nat.le_of_ble_eq_true rfl, Nat.le_of_ble_eq_true rfl⟩ (Nat.le_of_ble_eq_true rfl) dX7_move_432 (gx_C.mono k ?_)
        rintro _ X432 ⟨r432, rfl, k⟩
        refine ⟨r432, rfl, ?_⟩
        exact gx_iret h rfl dX7_move_435 ⟨_, rfl, k⟩
    · replace k := k.2 c
      refine gx_aload_n h 0 rfl dX7_move_413 ?_
      refine gx_bipush (v := (-5)) h dX7_move_414 (by decide) ?_
      refine gm_c_found0 h rfl ⟨Nat.le_of_ble_eq_true rfl, Nat.le_of_ble_eq_true rfl⟩ (Nat.le_of_ble_eq_true rfl) dX7_move_416 (gx_C.mono k ?_)
      rintro _ X416 ⟨r416, rfl, k⟩
      refine ⟨r416, rfl, ?_⟩
      exact gx_iret h rfl dX7_move_419 ⟨_, rfl, k⟩
  · replace k := k.2 c
    refine gx_iload h 2 rfl dX7_move_280 ?_
    refine gx_istore (L' := [(13, .int x6), (0, .ref (gm_am θ)), (1, .int x1), (6, .int x6), (8, .int x8), (10, .int x10), (11, .int x11), (12, .int x12)]) h (by decide) rfl dX7_move_282 ?_
    exact gx_sub [1, 2, 3, 4, 5, 6, 7, 0] rfl k
theorem bm_move_284 {θ : gm_T} {K : gx_K} {P : Int32 → gm_X → Prop} {X : gm_X} {x1 x6 x8 x10 x11 x12 x13 : Int32} (h : gm_K θ K mX7_move) (k : ((x8 ≤ x13 → gm_G θ K mX7_move (gm_Pi P) 355 [(0, .ref (gm_am θ)), (1, .int x1), (6, .int x6), (8, .int x8), (10, .int x10), (11, .int x11), (12, .int x12)] [] X) ∧ (¬ x8 ≤ x13 → ((x12 = x10 → vp_in 10 11 ∧ gx_C (gm_O θ) mX7_carry [.ref (gm_am θ), .int x1, .int x13, .int 10, .int (X.2 1 (10 : Int32).toNatClampNeg)] X (gm_Pv (fun X311 => vp_in 10 11 ∧ gx_C (gm_O θ) mX7_deep [.ref (gm_am θ), .int x1, .int x13] X311 (gm_Pi (fun r329 X329 => gx_C (gm_O θ) mX7_set [.ref (gm_am θ), .int 10, .int (X311.2 1 (10 : Int32).toNatClampNeg), .int 2, .int (r329 + x11)] X329 (gm_Pv (fun X335 => vp_in 10 11 ∧ vp_in 10 11 ∧ ∀ X348, X348 = gm_pA X335 1 (10 : Int32).toNatClampNeg ((X335.2 1 (10 : Int32).toNatClampNeg) + 1) → gm_G θ K mX7_move (gm_Pi P) 284 [(0, .ref (gm_am θ)), (1, .int x1), (6, .int x6), (8, .int x8), (10, .int x10), (11, .int x11), (12, .int x12), (13, .int (x13 + 1))] [] X348))))))) ∧ (¬ x12 = x10 → gm_G θ K mX7_move (gm_Pi P) 355 [(0, .ref (gm_am θ)), (1, .int x1), (6, .int x6), (8, .int x8), (10, .int x10), (11, .int x11), (12, .int x12)] [] X))))) : gm_G θ K mX7_move (gm_Pi P) 284 [(0, .ref (gm_am θ)), (1, .int x1), (6, .int x6), (8, .int x8), (10, .int x10), (11, .int x11), (12, .int x12), (13, .int x13)] [] X := by
  refine gx_iload h 7 rfl dX7_move_284 ?_
  refine gx_iload h 3 rfl dX7_move_286 ?_
  refine gx_icmp_ge (tgt := 355) h (by decide) dX7_move_288 (fun c => ?_) (fun c => ?_)
  · replace k := k.1 c
    exact gx_sub [0, 1, 2, 3, 4, 5, 6] rfl k
  · replace k := k.2 c
    refine gx_iload h 6 rfl dX7_move_291 ?_
    refine gx_iload h 4 rfl dX7_move_293 ?_
    refine gx_icmp_ne (tgt := 355) h (by decide) dX7_move_295 (fun c => ?_) (fun c => ?_)
    · replace k := k.2 c
      exact gx_sub [0, 1, 2, 3, 4, 5, 6] rfl k
    · replace k := k.1 c
      refine gx_aload_n h 0 rfl dX7_move_298 ?_
      refine gx_iload_n h 1 rfl dX7_move_299 ?_
      refine gx_iload h 7 rfl dX7_move_300 ?_
      refine gx_bipush (v := 10) h dX7_move_302 (by decide) ?_
      refine gx_aload_n h 0 rfl dX7_move_304 ?_
      refine gm_get1 h rfl dX7_move_305 ?_
      refine gx_bipush (v := 10) h dX7_move_308 (by decide) ?_
      refine gm_ld1 h k.1 dX7_move_310 ?_
      replace k := k.2
      refine gm_c_carry h rfl ⟨Nat.le_of_ble_eq_true rfl, Nat.le_of_ble_eq_true rfl⟩ (Nat.le_of_ble_eq_true rfl) dX7_move_311 (gx_C.mono k ?_)
      rintro _ X311 ⟨rfl, k⟩
      refine ⟨rfl, ?_⟩
      refine gx_aload_n h 0 rfl dX7_move_314 ?_
      refine gx_bipush (v := 10) h dX7_move_315 (by decide) ?_
      refine gx_aload_n h 0 rfl dX7_move_317 ?_
      refine gm_get1 h rfl dX7_move_318 ?_
      refine gx_bipush (v := 10) h dX7_move_321 (by decide) ?_
      refine gm_ld1 h k.1 dX7_move_323 ?_
      replace k := k.2
      refine gx_iconst (v := 2) h dX7_move_324 (by decide) ?_
      refine gx_aload_n h 0 rfl dX7_move_325 ?_
      refine gx_iload_n h 1 rfl dX7_move_326 ?_
      refine gx_iload h 7 rfl dX7_move_327 ?_
      refine gm_c_deep h rfl ⟨Nat.le_of_ble_eq_true rfl, Nat.le_of_ble_eq_true rfl⟩ (Nat.le_of_ble_eq_true rfl) dX7_move_329 (gx_C.mono k ?_)
      rintro _ X329 ⟨r329, rfl, k⟩
      refine ⟨r329, rfl, ?_⟩
      refine gx_iload h 5 rfl dX7_move_332 ?_
      refine gx_iadd h dX7_move_334 ?_
      refine gm_c_set h rfl ⟨Nat.le_of_ble_eq_true rfl, Nat.le_of_ble_eq_true rfl⟩ (Nat.le_of_ble_eq_true rfl) dX7_move_335 (gx_C.mono k ?_)
      rintro _ X335 ⟨rfl, k⟩
      refine ⟨rfl, ?_⟩
      refine gx_aload_n h 0 rfl dX7_move_338 ?_
      refine gm_get1 h rfl dX7_move_339 ?_
      refine gx_bipush (v := 10) h dX7_move_342 (by decide) ?_
      refine gx_dup2 h rfl rfl dX7_move_344 ?_
      refine gm_ld1 h k.1 dX7_move_345 ?_
      replace k := k.2
      refine gx_iconst (v := 1) h dX7_move_346 (by decide) ?_
      refine gx_iadd h dX7_move_347 ?_
      refine gm_st1 h k.1 dX7_move_348 ?_
      generalize hz : gm_pA X335 1 (10 : Int32).toNatClampNeg ((X335.2 1 (10 : Int32).toNatClampNeg) + 1) = X348
      replace k := k.2 X348 hz.symm
      refine gx_iinc (v := x13 + 1) (L' := [(13, .int (x13 + 1)), (0, .ref (gm_am θ)), (1, .int x1), (6, .int x6), (8, .int x8), (10, .int x10), (11, .int x11), (12, .int x12)]) h 7 rfl rfl (by decide) rfl dX7_move_349 ?_
      refine gx_goto (tgt := 284) h (by decide) dX7_move_352 ?_
      exact gx_sub [1, 2, 3, 4, 5, 6, 7, 0] rfl k
theorem bm_move_355 {θ : gm_T} {K : gx_K} {P : Int32 → gm_X → Prop} {X : gm_X} {x1 x6 x8 x10 x11 x12 : Int32} (h : gm_K θ K mX7_move) (k : vp_in 9 11 ∧ ((x12 = (X.2 1 (9 : Int32).toNatClampNeg) → gm_G θ K mX7_move (gm_Pi P) 398 [(0, .ref (gm_am θ)), (1, .int x1), (6, .int x6), (8, .int x8), (10, .int x10), (11, .int x11), (12, .int x12)] [] X) ∧ (¬ x12 = (X.2 1 (9 : Int32).toNatClampNeg) → vp_in 10 11 ∧ gx_C (gm_O θ) mX7_carry [.ref (gm_am θ), .int 9, .int x12, .int 10, .int (X.2 1 (10 : Int32).toNatClampNeg)] X (gm_Pv (fun X384 => vp_in 10 11 ∧ vp_in 10 11 ∧ ∀ X397, X397 = gm_pA X384 1 (10 : Int32).toNatClampNeg ((X384.2 1 (10 : Int32).toNatClampNeg) + 1) → gm_G θ K mX7_move (gm_Pi P) 398 [(0, .ref (gm_am θ)), (1, .int x1), (6, .int x6), (8, .int x8), (10, .int x10), (11, .int x11), (12, .int x12)] [] X397))))) : gm_G θ K mX7_move (gm_Pi P) 355 [(0, .ref (gm_am θ)), (1, .int x1), (6, .int x6), (8, .int x8), (10, .int x10), (11, .int x11), (12, .int x12)] [] X := by
  refine gx_iload h 6 rfl dX7_move_355 ?_
  refine gx_aload_n h 0 rfl dX7_move_357 ?_
  refine gm_get1 h rfl dX7_move_358 ?_
  refine gx_bipush (v := 9) h dX7_move_361 (by decide) ?_
  refine gm_ld1 h k.1 dX7_move_363 ?_
  replace k := k.2
  refine gx_icmp_ne (tgt := 370) h (by decide) dX7_move_364 (fun c => ?_) (fun c => ?_)
  · replace k := k.2 c
    refine gx_aload_n h 0 rfl dX7_move_370 ?_
    refine gx_bipush (v := 9) h dX7_move_371 (by decide) ?_
    refine gx_iload h 6 rfl dX7_move_373 ?_
    refine gx_bipush (v := 10) h dX7_move_375 (by decide) ?_
    refine gx_aload_n h 0 rfl dX7_move_377 ?_
    refine gm_get1 h rfl dX7_move_378 ?_
    refine gx_bipush (v := 10) h dX7_move_381 (by decide) ?_
    refine gm_ld1 h k.1 dX7_move_383 ?_
    replace k := k.2
    refine gm_c_carry h rfl ⟨Nat.le_of_ble_eq_true rfl, Nat.le_of_ble_eq_true rfl⟩ (Nat.le_of_ble_eq_true rfl) dX7_move_384 (gx_C.mono k ?_)
    rintro _ X384 ⟨rfl, k⟩
    refine ⟨rfl, ?_⟩
    refine gx_aload_n h 0 rfl dX7_move_387 ?_
    refine gm_get1 h rfl dX7_move_388 ?_
    refine gx_bipush (v := 10) h dX7_move_391 (by decide) ?_
    refine gx_dup2 h rfl rfl dX7_move_393 ?_
    refine gm_ld1 h k.1 dX7_move_394 ?_
    replace k := k.2
    refine gx_iconst (v := 1) h dX7_move_395 (by decide) ?_
    refine gx_iadd h dX7_move_396 ?_
    refine gm_st1 h k.1 dX7_move_397 ?_
    generalize hz : gm_pA X384 1 (10 : Int32).toNatClampNeg ((X384.2 1 (10 : Int32).toNatClampNeg) + 1) = X397
    replace k := k.2 X397 hz.symm
    exact k
  · replace k := k.1 c
    refine gx_goto (tgt := 398) h (by decide) dX7_move_367 ?_
    exact k
theorem bm_move_398 {θ : gm_T} {K : gx_K} {P : Int32 → gm_X → Prop} {X : gm_X} {x1 x6 x8 x10 x11 x12 : Int32} (h : gm_K θ K mX7_move) (k : gm_G θ K mX7_move (gm_Pi P) 268 [(0, .ref (gm_am θ)), (1, .int x1), (6, .int x6), (8, .int x8), (10, .int x10), (11, .int x11), (12, .int (x12 + 1))] [] X) : gm_G θ K mX7_move (gm_Pi P) 398 [(0, .ref (gm_am θ)), (1, .int x1), (6, .int x6), (8, .int x8), (10, .int x10), (11, .int x11), (12, .int x12)] [] X := by
  refine gx_iinc (v := x12 + 1) (L' := [(12, .int (x12 + 1)), (0, .ref (gm_am θ)), (1, .int x1), (6, .int x6), (8, .int x8), (10, .int x10), (11, .int x11)]) h 6 rfl rfl (by decide) rfl dX7_move_398 ?_
  refine gx_goto (tgt := 268) h (by decide) dX7_move_401 ?_
  exact gx_sub [1, 2, 3, 4, 5, 6, 0] rfl k
