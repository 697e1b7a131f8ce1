set_option maxRecDepth 100000
/-! X4.forests -/
theorem ec_X4_forests {θ : gc_T} {P : gc_S → Prop} {σ : gc_S} {n : Nat} {a0 : Nat} {x1 : Int32} {x2 : Int32} {x3 : Int32} {x4 : Int32} (body : ∀ K, gc_K θ K (nX4_forests (n + 1)) → gc_G θ K (nX4_forests (n + 1)) (gc_Pv P) 0 [(0, va_rf (some a0)), (1, .int x1), (2, .int x2), (3, .int x3), (4, .int x4)] [] σ 0 0) : gx_C (gc_O θ) (nX4_forests (n + 1)) [.ref a0, .int x1, .int x2, .int x3, .int x4] σ (gc_Pv P) :=
  gx_C.intro (gc_z_warm θ) rfl (Nat.le_of_ble_eq_true rfl) body
theorem bc_X4_forests_0 {θ : gc_T} {K : gx_K} {P : gc_S → Prop} {σ : gc_S} {x1 x2 x3 x4 : Int32} {a0 n bc bs : Nat} (h : gc_K θ K (nX4_forests (n + 1))) (k : gc_is σ a0 4 ∧ ∃ a5_1 : Nat, gc_R σ 404 a0 = some a5_1 ∧ gc_is σ a5_1 17 ∧ vp_in 0 (gc_n σ a5_1) ∧ ∃ a8_2 : Nat, gc_Q σ a5_1 (0 : Int32).toNatClampNeg = some a8_2 ∧ gc_is σ a8_2 14 ∧ vp_in 0 (gc_n σ a8_2) ∧ ∀ σ8, σ8 = gc_sE σ a8_2 (0 : Int32).toNatClampNeg 0 → gc_G θ K (nX4_forests (n + 1)) (gc_Pv P) 12 [(0, va_rf (some a0)), (1, .int x1), (2, .int x2), (3, .int x3), (4, .int x4), (5, .int x1)] [] σ8 bc bs) : gc_G θ K (nX4_forests (n + 1)) (gc_Pv P) 0 [(0, va_rf (some a0)), (1, .int x1), (2, .int x2), (3, .int x3), (4, .int x4)] [] σ bc bs := by
  refine gx_aload_nq (r := some a0) h 0 rfl dX4_forests_0 ?_
  refine gcg_X4_20 h rfl rfl k.1 dX4_forests_1 ?_
  replace k := k.2
  refine gx_iconst (v := 0) h dX4_forests_4 (by decide) ?_
  obtain ⟨a5_1, e5_1, k⟩ := k
  refine gc_aald17E (r := gc_R σ 404 a0) h e5_1 k.1 k.2.1 dX4_forests_5 ?_
  replace k := k.2.2
  refine gx_iconst (v := 0) h dX4_forests_6 (by decide) ?_
  refine gx_iconst (v := 0) h dX4_forests_7 (by decide) ?_
  obtain ⟨a8_2, e8_2, k⟩ := k
  refine gc_iastE (r := gc_Q σ a5_1 (0 : Int32).toNatClampNeg) h e8_2 k.1 k.2.1 dX4_forests_8 ?_
  generalize hz : gc_sE σ a8_2 (0 : Int32).toNatClampNeg 0 = σ8
  replace k := k.2.2 σ8 hz.symm
  refine gx_iload_n h 1 rfl dX4_forests_9 ?_
  refine gx_istore (L' := [(5, .int x1), (0, va_rf (some a0)), (1, .int x1), (2, .int x2), (3, .int x3), (4, .int x4)]) h (Nat.le_of_ble_eq_true rfl) rfl dX4_forests_10 ?_
  exact gx_sub [1, 2, 3, 4, 5, 0] rfl k
theorem bc_X4_forests_12 {θ : gc_T} {K : gx_K} {P : gc_S → Prop} {σ : gc_S} {x1 x2 x3 x4 x5 : Int32} {a0 n bc bs : Nat} (h : gc_K θ K (nX4_forests (n + 1))) (k : ((x2 ≤ x5 → gc_G θ K (nX4_forests (n + 1)) (gc_Pv P) 58 [(0, va_rf (some a0)), (1, .int x1), (2, .int x2), (3, .int x3), (4, .int x4), (5, .int x3)] [] σ bc bs) ∧ (¬ x2 ≤ x5 → gc_is σ a0 4 ∧ ∃ a28_1 : Nat, gc_R σ 404 a0 = some a28_1 ∧ gc_is σ a28_1 17 ∧ vp_in ((x5 - x1) + 1) (gc_n σ a28_1) ∧ gc_is σ a0 4 ∧ gc_is σ a28_1 17 ∧ vp_in (x5 - x1) (gc_n σ a28_1) ∧ ∃ a40_2 : Nat, gc_Q σ a28_1 (x5 - x1).toNatClampNeg = some a40_2 ∧ gc_is σ a40_2 14 ∧ vp_in 0 (gc_n σ a40_2) ∧ gc_is σ a0 4 ∧ ∃ a46_3 : Nat, gc_R σ 400 a0 = some a46_3 ∧ gc_is σ a46_3 14 ∧ vp_in 3 (gc_n σ a46_3) ∧ ∃ a48_4 : Nat, gc_Q σ a28_1 ((x5 - x1) + 1).toNatClampNeg = some a48_4 ∧ gc_is σ a48_4 14 ∧ vp_in 0 (gc_n σ a48_4) ∧ ∀ σ48, σ48 = gc_sE σ a48_4 (0 : Int32).toNatClampNeg ((gc_E σ a40_2 (0 : Int32).toNatClampNeg) + (gc_E σ a46_3 (3 : Int32).toNatClampNeg)) → gc_G θ K (nX4_forests (n + 1)) (gc_Pv P) 12 [(0, va_rf (some a0)), (1, .int x1), (2, .int x2), (3, .int x3), (4, .int x4), (5, .int (x5 + 1))] [] σ48 bc bs))) : gc_G θ K (nX4_forests (n + 1)) (gc_Pv P) 12 [(0, va_rf (some a0)), (1, .int x1), (2, .int x2), (3, .int x3), (4, .int x4), (5, .int x5)] [] σ bc bs := by
  refine gx_iload h 5 rfl dX4_forests_12 ?_
  refine gx_iload_n h 2 rfl dX4_forests_14 ?_
  refine gx_icmp_ge (tgt := 55) h (by decide) dX4_forests_15 (fun c => ?_) (fun c => ?_)
  · replace k := k.1 c
    refine gx_iload_n h 3 rfl dX4_forests_55 ?_
    refine gx_istore (L' := [(5, .int x3), (0, va_rf (some a0)), (1, .int x1), (2, .int x2), (3, .int x3), (4, .int x4)]) h (Nat.le_of_ble_eq_true rfl) rfl dX4_forests_56 ?_
    exact gx_sub [1, 2, 3, 4, 5, 0] rfl k
  · replace k := k.2 c
    refine gx_aload_nq (r := some a0) h 0 rfl dX4_forests_18 ?_
    refine gcg_X4_20 h rfl rfl k.1 dX4_forests_19 ?_
    replace k := k.2
    refine gx_iload h 5 rfl dX4_forests_22 ?_
    refine gx_iload_n h 1 rfl dX4_forests_24 ?_
    refine gx_isub h dX4_forests_25 ?_
    refine gx_iconst (v := 1) h dX4_forests_26 (by decide) ?_
    refine gx_iadd h dX4_forests_27 ?_
    obtain ⟨a28_1, e28_1, k⟩ := k
    refine gc_aald17E (r := gc_R σ 404 a0) h e28_1 k.1 k.2.1 dX4_forests_28 ?_
    replace k := k.2.2
    refine gx_iconst (v := 0) h dX4_forests_29 (by decide) ?_
    refine gx_aload_nq (r := some a0) h 0 rfl dX4_forests_30 ?_
    refine gcg_X4_20 h rfl rfl k.1 dX4_forests_31 ?_
    replace k := k.2
    refine gx_iload h 5 rfl dX4_forests_34 ?_
    refine gx_iload_n h 1 rfl dX4_forests_36 ?_
    refine gx_isub h dX4_forests_37 ?_
    refine gc_aald17E (r := gc_R σ 404 a0) h e28_1 k.1 k.2.1 dX4_forests_38 ?_
    replace k := k.2.2
    refine gx_iconst (v := 0) h dX4_forests_39 (by decide) ?_
    obtain ⟨a40_2, e40_2, k⟩ := k
    refine gc_ialdE (r := gc_Q σ a28_1 (x5 - x1).toNatClampNeg) h e40_2 k.1 k.2.1 dX4_forests_40 ?_
    replace k := k.2.2
    refine gx_aload_nq (r := some a0) h 0 rfl dX4_forests_41 ?_
    refine gcg_X4_9 h rfl rfl k.1 dX4_forests_42 ?_
    replace k := k.2
    refine gx_iconst (v := 3) h dX4_forests_45 (by decide) ?_
    obtain ⟨a46_3, e46_3, k⟩ := k
    refine gc_ialdE (r := gc_R σ 400 a0) h e46_3 k.1 k.2.1 dX4_forests_46 ?_
    replace k := k.2.2
    refine gx_iadd h dX4_forests_47 ?_
    obtain ⟨a48_4, e48_4, k⟩ := k
    refine gc_iastE (r := gc_Q σ a28_1 ((x5 - x1) + 1).toNatClampNeg) h e48_4 k.1 k.2.1 dX4_forests_48 ?_
    generalize hz : gc_sE σ a48_4 (0 : Int32).toNatClampNeg ((gc_E σ a40_2 (0 : Int32).toNatClampNeg) + (gc_E σ a46_3 (3 : Int32).toNatClampNeg)) = σ48
    replace k := k.2.2 σ48 hz.symm
    refine gx_iinc (v := x5 + 1) (L' := [(5, .int (x5 + 1)), (0, va_rf (some a0)), (1, .int x1), (2, .int x2), (3, .int x3), (4, .int x4)]) h 5 rfl rfl (Nat.le_of_ble_eq_true rfl) rfl dX4_forests_49 ?_
    refine gx_goto (tgt := 12) h (by decide) dX4_forests_52 ?_
    exact gx_sub [1, 2, 3, 4, 5, 0] rfl k
theorem bc_X4_forests_58 {θ : gc_T} {K : gx_K} {P : gc_S → Prop} {σ : gc_S} {x1 x2 x3 x4 x5 : Int32} {a0 n bc bs : Nat} (h : gc_K θ K (nX4_forests (n + 1))) (k : ((x4 ≤ x5 → gc_G θ K (nX4_forests (n + 1)) (gc_Pv P) 105 [(0, va_rf (some a0)), (1, .int x1), (2, .int x2), (3, .int x3), (4, .int x4), (5, .int x1)] [] σ bc bs) ∧ (¬ x4 ≤ x5 → gc_is σ a0 4 ∧ ∃ a70_1 : Nat, gc_R σ 404 a0 = some a70_1 ∧ gc_is σ a70_1 17 ∧ vp_in 0 (gc_n σ a70_1) ∧ gc_is σ a0 4 ∧ gc_is σ a70_1 17 ∧ vp_in 0 (gc_n σ a70_1) ∧ ∃ a87_2 : Nat, gc_Q σ a70_1 (0 : Int32).toNatClampNeg = some a87_2 ∧ gc_is σ a87_2 14 ∧ vp_in (x5 - x3) (gc_n σ a87_2) ∧ gc_is σ a0 4 ∧ ∃ a93_3 : Nat, gc_R σ 400 a0 = some a93_3 ∧ gc_is σ a93_3 14 ∧ vp_in 2 (gc_n σ a93_3) ∧ gc_is σ a87_2 14 ∧ vp_in ((x5 - x3) + 1) (gc_n σ a87_2) ∧ ∀ σ95, σ95 = gc_sE σ a87_2 ((x5 - x3) + 1).toNatClampNeg ((gc_E σ a87_2 (x5 - x3).toNatClampNeg) + (gc_E σ a93_3 (2 : Int32).toNatClampNeg)) → gc_G θ K (nX4_forests (n + 1)) (gc_Pv P) 58 [(0, va_rf (some a0)), (1, .int x1), (2, .int x2), (3, .int x3), (4, .int x4), (5, .int (x5 + 1))] [] σ95 bc bs))) : gc_G θ K (nX4_forests (n + 1)) (gc_Pv P) 58 [(0, va_rf (some a0)), (1, .int x1), (2, .int x2), (3, .int x3), (4, .int x4), (5, .int x5)] [] σ bc bs := by
  refine gx_iload h 5 rfl dX4_forests_58 ?_
  refine gx_iload h 4 rfl dX4_forests_60 ?_
  refine gx_icmp_ge (tgt := 102) h (by decide) dX4_forests_62 (fun c => ?_) (fun c => ?_)
  · replace k := k.1 c
    refine gx_iload_n h 1 rfl dX4_forests_102 ?_
    refine gx_istore (L' := [(5, .int x1), (0, va_rf (some a0)), (1, .int x1), (2, .int x2), (3, .int x3), (4, .int x4)]) h (Nat.le_of_ble_eq_true rfl) rfl dX4_forests_103 ?_
    exact gx_sub [1, 2, 3, 4, 5, 0] rfl k
  · replace k := k.2 c
    refine gx_aload_nq (r := some a0) h 0 rfl dX4_forests_65 ?_
    refine gcg_X4_20 h rfl rfl k.1 dX4_forests_66 ?_
    replace k := k.2
    refine gx_iconst (v := 0) h dX4_forests_69 (by decide) ?_
    obtain ⟨a70_1, e70_1, k⟩ := k
    refine gc_aald17E (r := gc_R σ 404 a0) h e70_1 k.1 k.2.1 dX4_forests_70 ?_
    replace k := k.2.2
    refine gx_iload h 5 rfl dX4_forests_71 ?_
    refine gx_iload_n h 3 rfl dX4_forests_73 ?_
    refine gx_isub h dX4_forests_74 ?_
    refine gx_iconst (v := 1) h dX4_forests_75 (by decide) ?_
    refine gx_iadd h dX4_forests_76 ?_
    refine gx_aload_nq (r := some a0) h 0 rfl dX4_forests_77 ?_
    refine gcg_X4_20 h rfl rfl k.1 dX4_forests_78 ?_
    replace k := k.2
    refine gx_iconst (v := 0) h dX4_forests_81 (by decide) ?_
    refine gc_aald17E (r := gc_R σ 404 a0) h e70_1 k.1 k.2.1 dX4_forests_82 ?_
    replace k := k.2.2
    refine gx_iload h 5 rfl dX4_forests_83 ?_
    refine gx_iload_n h 3 rfl dX4_forests_85 ?_
    refine gx_isub h dX4_forests_86 ?_
    obtain ⟨a87_2, e87_2, k⟩ := k
    refine gc_ialdE (r := gc_Q σ a70_1 (0 : Int32).toNatClampNeg) h e87_2 k.1 k.2.1 dX4_forests_87 ?_
    replace k := k.2.2
    refine gx_aload_nq (r := some a0) h 0 rfl dX4_forests_88 ?_
    refine gcg_X4_9 h rfl rfl k.1 dX4_forests_89 ?_
    replace k := k.2
    refine gx_iconst (v := 2) h dX4_forests_92 (by decide) ?_
    obtain ⟨a93_3, e93_3, k⟩ := k
    refine gc_ialdE (r := gc_R σ 400 a0) h e93_3 k.1 k.2.1 dX4_forests_93 ?_
    replace k := k.2.2
    refine gx_iadd h dX4_forests_94 ?_
    refine gc_iastE (r := gc_Q σ a70_1 (0 : Int32).toNatClampNeg) h e87_2 k.1 k.2.1 dX4_forests_95 ?_
    generalize hz : gc_sE σ a87_2 ((x5 - x3) + 1).toNatClampNeg ((gc_E σ a87_2 (x5 - x3).toNatClampNeg) + (gc_E σ a93_3 (2 : Int32).toNatClampNeg)) = σ95
    replace k := k.2.2 σ95 hz.symm
    refine gx_iinc (v := x5 + 1) (L' := [(5, .int (x5 + 1)), (0, va_rf (some a0)), (1, .int x1), (2, .int x2), (3, .int x3), (4, .int x4)]) h 5 rfl rfl (Nat.le_of_ble_eq_true rfl) rfl dX4_forests_96 ?_
    refine gx_goto (tgt := 58) h (by decide) dX4_forests_99 ?_
    exact gx_sub [1, 2, 3, 4, 5, 0] rfl k
theorem bc_X4_forests_105 {θ : gc_T} {K : gx_K} {P : gc_S → Prop} {σ : gc_S} {x1 x2 x3 x4 x5 : Int32} {a0 n bc bs : Nat} (h : gc_K θ K (nX4_forests (n + 1))) (k : ((x2 ≤ x5 → P σ) ∧ (¬ x2 ≤ x5 → gc_G θ K (nX4_forests (n + 1)) (gc_Pv P) 114 [(0, va_rf (some a0)), (1, .int x1), (2, .int x2), (3, .int x3), (4, .int x4), (5, .int x5), (6, .int x3)] [] σ bc bs))) : gc_G θ K (nX4_forests (n + 1)) (gc_Pv P) 105 [(0, va_rf (some a0)), (1, .int x1), (2, .int x2), (3, .int x3), (4, .int x4), (5, .int x5)] [] σ bc bs := by
  refine gx_iload h 5 rfl dX4_forests_105 ?_
  refine gx_iload_n h 2 rfl dX4_forests_107 ?_
  refine gx_icmp_ge (tgt := 217) h (by decide) dX4_forests_108 (fun c => ?_) (fun c => ?_)
  · replace k := k.1 c
    exact gx_vret h rfl dX4_forests_217 (⟨rfl, k⟩)
  · replace k := k.2 c
    refine gx_iload_n h 3 rfl dX4_forests_111 ?_
    refine gx_istore (L' := [(6, .int x3), (0, va_rf (some a0)), (1, .int x1), (2, .int x2), (3, .int x3), (4, .int x4), (5, .int x5)]) h (Nat.le_of_ble_eq_true rfl) rfl dX4_forests_112 ?_
    exact gx_sub [1, 2, 3, 4, 5, 6, 0] rfl k
theorem bc_X4_forests_114 {θ : gc_T} {K : gx_K} {P : gc_S → Prop} {σ : gc_S} {x1 x2 x3 x4 x5 x6 : Int32} {a0 n bc bs : Nat} (h : gc_K θ K (nX4_forests (n + 1))) (k : ((x4 ≤ x6 → gc_G θ K (nX4_forests (n + 1)) (gc_Pv P) 105 [(0, va_rf (some a0)), (1, .int x1), (2, .int x2), (3, .int x3), (4, .int x4), (5, .int (x5 + 1))] [] σ bc bs) ∧ (¬ x4 ≤ x6 → gc_is σ a0 4 ∧ ∃ a129_1 : Nat, gc_R σ 404 a0 = some a129_1 ∧ gc_is σ a129_1 17 ∧ vp_in (x5 - x1) (gc_n σ a129_1) ∧ ∃ a136_2 : Nat, gc_Q σ a129_1 (x5 - x1).toNatClampNeg = some a136_2 ∧ gc_is σ a136_2 14 ∧ vp_in ((x6 - x3) + 1) (gc_n σ a136_2) ∧ gc_is σ a0 4 ∧ ∃ a142_3 : Nat, gc_R σ 400 a0 = some a142_3 ∧ gc_is σ a142_3 14 ∧ vp_in 3 (gc_n σ a142_3) ∧ gc_is σ a0 4 ∧ gc_is σ a129_1 17 ∧ vp_in ((x5 - x1) + 1) (gc_n σ a129_1) ∧ ∃ a159_4 : Nat, gc_Q σ a129_1 ((x5 - x1) + 1).toNatClampNeg = some a159_4 ∧ gc_is σ a159_4 14 ∧ vp_in (x6 - x3) (gc_n σ a159_4) ∧ gc_is σ a0 4 ∧ gc_is σ a142_3 14 ∧ vp_in 2 (gc_n σ a142_3) ∧ ∀ x7_170 : Int32, x7_170 = (if ((gc_E σ a159_4 (x6 - x3).toNatClampNeg) + (gc_E σ a142_3 (2 : Int32).toNatClampNeg)) < ((gc_E σ a136_2 ((x6 - x3) + 1).toNatClampNeg) + (gc_E σ a142_3 (3 : Int32).toNatClampNeg)) then ((gc_E σ a159_4 (x6 - x3).toNatClampNeg) + (gc_E σ a142_3 (2 : Int32).toNatClampNeg)) else ((gc_E σ a136_2 ((x6 - x3) + 1).toNatClampNeg) + (gc_E σ a142_3 (3 : Int32).toNatClampNeg))) → gc_is σ a0 4 ∧ gc_is σ a129_1 17 ∧ vp_in ((x5 - x1) + 1) (gc_n σ a129_1) ∧ gc_is σ a0 4 ∧ gx_C (gc_O θ) (nX4_paired n) (.ref a0 :: [.int x1, .int x5, .int x3, .int x6]) σ (gc_Pi (fun r198 σ198 => gc_is σ198 a159_4 14 ∧ vp_in ((x6 - x3) + 1) (gc_n σ198 a159_4) ∧ ∀ σ204, σ204 = gc_sE σ198 a159_4 ((x6 - x3) + 1).toNatClampNeg (if r198 < x7_170 then r198 else x7_170) → gc_G θ K (nX4_forests (n + 1)) (gc_Pv P) 114 [(0, va_rf (some a0)), (1, .int x1), (2, .int x2), (3, .int x3), (4, .int x4), (5, .int x5), (6, .int (x6 + 1))] [] σ204 bc bs))))) : gc_G θ K (nX4_forests (n + 1)) (gc_Pv P) 114 [(0, va_rf (some a0)), (1, .int x1), (2, .int x2), (3, .int x3), (4, .int x4), (5, .int x5), (6, .int x6)] [] σ bc bs := by
  refine gx_iload h 6 rfl dX4_forests_114 ?_
  refine gx_iload h 4 rfl dX4_forests_116 ?_
  refine gx_icmp_ge (tgt := 211) h (by decide) dX4_forests_118 (fun c => ?_) (fun c => ?_)
  · replace k := k.1 c
    refine gx_iinc (v := x5 + 1) (L' := [(5, .int (x5 + 1)), (0, va_rf (some a0)), (1, .int x1), (2, .int x2), (3, .int x3), (4, .int x4), (6, .int x6)]) h 5 rfl rfl (Nat.le_of_ble_eq_true rfl) rfl dX4_forests_211 ?_
    refine gx_goto (tgt := 105) h (by decide) dX4_forests_214 ?_
    exact gx_sub [1, 2, 3, 4, 5, 0] rfl k
  · replace k := k.2 c
    refine gx_aload_nq (r := some a0) h 0 rfl dX4_forests_121 ?_
    refine gcg_X4_20 h rfl rfl k.1 dX4_forests_122 ?_
    replace k := k.2
    refine gx_iload h 5 rfl dX4_forests_125 ?_
    refine gx_iload_n h 1 rfl dX4_forests_127 ?_
    refine gx_isub h dX4_forests_128 ?_
    obtain ⟨a129_1, e129_1, k⟩ := k
    refine gc_aald17E (r := gc_R σ 404 a0) h e129_1 k.1 k.2.1 dX4_forests_129 ?_
    replace k := k.2.2
    refine gx_iload h 6 rfl dX4_forests_130 ?_
    refine gx_iload_n h 3 rfl dX4_forests_132 ?_
    refine gx_isub h dX4_forests_133 ?_
    refine gx_iconst (v := 1) h dX4_forests_134 (by decide) ?_
    refine gx_iadd h dX4_forests_135 ?_
    obtain ⟨a136_2, e136_2, k⟩ := k
    refine gc_ialdE (r := gc_Q σ a129_1 (x5 - x1).toNatClampNeg) h e136_2 k.1 k.2.1 dX4_forests_136 ?_
    replace k := k.2.2
    refine gx_aload_nq (r := some a0) h 0 rfl dX4_forests_137 ?_
    refine gcg_X4_9 h rfl rfl k.1 dX4_forests_138 ?_
    replace k := k.2
    refine gx_iconst (v := 3) h dX4_forests_141 (by decide) ?_
    obtain ⟨a142_3, e142_3, k⟩ := k
    refine gc_ialdE (r := gc_R σ 400 a0) h e142_3 k.1 k.2.1 dX4_forests_142 ?_
    replace k := k.2.2
    refine gx_iadd h dX4_forests_143 ?_
    refine gx_aload_nq (r := some a0) h 0 rfl dX4_forests_144 ?_
    refine gcg_X4_20 h rfl rfl k.1 dX4_forests_145 ?_
    replace k := k.2
    refine gx_iload h 5 rfl dX4_forests_148 ?_
    refine gx_iload_n h 1 rfl dX4_forests_150 ?_
    refine gx_isub h dX4_forests_151 ?_
    refine gx_iconst (v := 1) h dX4_forests_152 (by decide) ?_
    refine gx_iadd h dX4_forests_153 ?_
    refine gc_aald17E (r := gc_R σ 404 a0) h e129_1 k.1 k.2.1 dX4_forests_154 ?_
    replace k := k.2.2
    refine gx_iload h 6 rfl dX4_forests_155 ?_
    refine gx_iload_n h 3 rfl dX4_forests_157 ?_
    refine gx_isub h dX4_forests_158 ?_
    obtain ⟨a159_4, e159_4, k⟩ := k
    refine gc_ialdE (r := gc_Q σ a129_1 ((x5 - x1) + 1).toNatClampNeg) h e159_4 k.1 k.2.1 dX4_forests_159 ?_
    replace k := k.2.2
    refine gx_aload_nq (r := some a0) h 0 rfl dX4_forests_160 ?_
    refine gcg_X4_9 h rfl rfl k.1 dX4_forests_161 ?_
    replace k := k.2
    refine gx_iconst (v := 2) h dX4_forests_164 (by decide) ?_
    refine gc_ialdE (r := gc_R σ 400 a0) h e142_3 k.1 k.2.1 dX4_forests_165 ?_
    replace k := k.2.2
    refine gx_iadd h dX4_forests_166 ?_
    refine gcc_X4_44 (n := n) h rfl ⟨Nat.le_refl _, Nat.le_refl _⟩ (Nat.le_of_ble_eq_true rfl) dX4_forests_167 ?_
    generalize hz : (if ((gc_E σ a159_4 (x6 - x3).toNatClampNeg) + (gc_E σ a142_3 (2 : Int32).toNatClampNeg)) < ((gc_E σ a136_2 ((x6 - x3) + 1).toNatClampNeg) + (gc_E σ a142_3 (3 : Int32).toNatClampNeg)) then ((gc_E σ a159_4 (x6 - x3).toNatClampNeg) + (gc_E σ a142_3 (2 : Int32).toNatClampNeg)) else ((gc_E σ a136_2 ((x6 - x3) + 1).toNatClampNeg) + (gc_E σ a142_3 (3 : Int32).toNatClampNeg))) = x7_170
    replace k := k x7_170 hz.symm
    refine gx_istore (L' := [(7, .int x7_170), (0, va_rf (some a0)), (1, .int x1), (2, .int x2), (3, .int x3), (4, .int x4), (5, .int x5), (6, .int x6)]) h (Nat.le_of_ble_eq_true rfl) rfl dX4_forests_170 ?_
    refine gx_aload_nq (r := some a0) h 1 rfl dX4_forests_172 ?_
    refine gcg_X4_20 h rfl rfl k.1 dX4_forests_173 ?_
    replace k := k.2
    refine gx_iload h 6 rfl dX4_forests_176 ?_
    refine gx_iload_n h 2 rfl dX4_forests_178 ?_
    refine gx_isub h dX4_forests_179 ?_
    refine gx_iconst (v := 1) h dX4_forests_180 (by decide) ?_
    refine gx_iadd h dX4_forests_181 ?_
    refine gc_aald17E (r := gc_R σ 404 a0) h e129_1 k.1 k.2.1 dX4_forests_182 ?_
    replace k := k.2.2
    refine gx_iload h 7 rfl dX4_forests_183 ?_
    refine gx_iload_n h 4 rfl dX4_forests_185 ?_
    refine gx_isub h dX4_forests_186 ?_
    refine gx_iconst (v := 1) h dX4_forests_187 (by decide) ?_
    refine gx_iadd h dX4_forests_188 ?_
    refine gx_iload h 0 rfl dX4_forests_189 ?_
    refine gx_aload_nq (r := some a0) h 1 rfl dX4_forests_191 ?_
    refine gx_iload_n h 2 rfl dX4_forests_192 ?_
    refine gx_iload h 6 rfl dX4_forests_193 ?_
    refine gx_iload_n h 4 rfl dX4_forests_195 ?_
    refine gx_iload h 7 rfl dX4_forests_196 ?_
    refine gcc_X4_50 (r := some a0) (a0 := x1) (a1 := x5) (a2 := x3) (a3 := x6) h rfl ⟨Nat.le_refl _, Nat.le_refl _⟩ rfl k.1 (by simp only [List.map_cons, List.map_nil, List.sum_cons, List.sum_nil, gx_cat]; exact Nat.le_of_ble_eq_true rfl) dX4_forests_198 (gx_C.mono k.2 ?_)
    rintro _ σ198 ⟨r198, rfl, k⟩
    refine ⟨r198, rfl, ?_⟩
    refine gcc_X4_44 (n := n) h rfl ⟨Nat.le_refl _, Nat.le_refl _⟩ (by simp only [List.map_cons, List.map_nil, List.sum_cons, List.sum_nil, gx_cat]; exact Nat.le_of_ble_eq_true rfl) dX4_forests_201 ?_
    refine gc_iastE (r := gc_Q σ a129_1 ((x5 - x1) + 1).toNatClampNeg) h e159_4 k.1 k.2.1 dX4_forests_204 ?_
    generalize hz : gc_sE σ198 a159_4 ((x6 - x3) + 1).toNatClampNeg (if r198 < x7_170 then r198 else x7_170) = σ204
    replace k := k.2.2 σ204 hz.symm
    refine gx_iinc (v := x6 + 1) (L' := [(6, .int (x6 + 1)), (7, .int x7_170), (0, va_rf (some a0)), (1, .int x1), (2, .int x2), (3, .int x3), (4, .int x4), (5, .int x5)]) h 7 rfl rfl (Nat.le_of_ble_eq_true rfl) rfl dX4_forests_205 ?_
    refine gx_goto (tgt := 114) h (by decide) dX4_forests_208 ?_
    exact gx_sub [2, 3, 4, 5, 6, 7, 0] rfl k
/-! X4.paired -/
theorem ec_X4_paired {θ : gc_T} {P : Int32 → gc_S → Prop} {σ : gc_S} {n : Nat} {a0 : Nat} {x1 : Int32} {x2 : Int32} {x3 : Int32} {x4 : Int32} (body : ∀ K, gc_K θ K (nX4_paired (n + 1)) → gc_G θ K (nX4_paired (n + 1)) (gc_Pi P) 0 [(0, va_rf (some a0)), (1, .int x1), (2, .int x2), (3, .int x3), (4, .int x4)] [] σ 0 0) : gx_C (gc_O θ) (nX4_paired (n + 1)) [.ref a0, .int x1, .int x2, .int x3, .int x4] σ (gc_Pi P) :=
  gx_C.intro (gc_z_warm θ) rfl (Nat.le_of_ble_eq_true rfl) body
theorem bc_X4_paired_0 {θ : gc_T} {K : gx_K} {P : Int32 → gc_S → Prop} {σ : gc_S} {x1 x2 x3 x4 : Int32} {a0 n bc bs : Nat} (h : gc_K θ K (nX4_paired (n + 1))) (k : gc_is σ a0 4 ∧ ∃ a4_1 : Nat, gc_R σ 401 a0 = some a4_1 ∧ gc_is σ a4_1 7 ∧ ∃ a8_2 : Nat, gc_R σ 702 a4_1 = some a8_2 ∧ gc_is σ a8_2 18 ∧ vp_in x2 (gc_n σ a8_2) ∧ gc_is σ a0 4 ∧ ∃ a15_3 : Nat, gc_R σ 402 a0 = some a15_3 ∧ gc_is σ a15_3 7 ∧ ∃ a20_4 : Nat, gc_R σ 702 a15_3 = some a20_4 ∧ gc_is σ a20_4 18 ∧ vp_in x4 (gc_n σ a20_4) ∧ ∃ a27_5 : Nat, gc_Q σ a8_2 x2.toNatClampNeg = some a27_5 ∧ gc_isN σ a27_5 ∧ vC_fits θ n σ a27_5 [va_rf (gc_Q σ a20_4 x4.toNatClampNeg)] (gc_Pi (fun r27 σ27 => ((r27 = 0 → P 2147483647 σ27) ∧ (¬ r27 = 0 → gc_is σ27 a0 4 ∧ gc_isN σ27 a27_5 ∧ ∃ a47_6 : Nat, gc_R σ27 404 a0 = some a47_6 ∧ gc_is σ27 a47_6 17 ∧ vp_in ((gc_I σ27 807 a27_5) - x1) (gc_n σ27 a47_6) ∧ ∃ a50_7 : Nat, gc_Q σ a20_4 x4.toNatClampNeg = some a50_7 ∧ gc_isN σ27 a50_7 ∧ ∃ a55_8 : Nat, gc_Q σ27 a47_6 ((gc_I σ27 807 a27_5) - x1).toNatClampNeg = some a55_8 ∧ gc_is σ27 a55_8 14 ∧ vp_in ((gc_I σ27 807 a50_7) - x3) (gc_n σ27 a55_8) ∧ gc_is σ27 a0 4 ∧ ∃ a61_9 : Nat, gc_R σ27 403 a0 = some a61_9 ∧ gc_is σ27 a61_9 17 ∧ vp_in x2 (gc_n σ27 a61_9) ∧ ∃ a64_10 : Nat, gc_Q σ27 a61_9 x2.toNatClampNeg = some a64_10 ∧ gc_is σ27 a64_10 14 ∧ vp_in x4 (gc_n σ27 a64_10) ∧ gc_is σ27 a0 4 ∧ gx_C (gc_O θ) (nX4_cost n) (.ref a0 :: [va_rf (gc_Q σ a8_2 x2.toNatClampNeg), va_rf (gc_Q σ a20_4 x4.toNatClampNeg)]) σ27 (gc_Pi (fun r71 σ71 => P (((gc_E σ27 a55_8 ((gc_I σ27 807 a50_7) - x3).toNatClampNeg) + (gc_E σ27 a64_10 x4.toNatClampNeg)) + r71) σ71))))))) : gc_G θ K (nX4_paired (n + 1)) (gc_Pi P) 0 [(0, va_rf (some a0)), (1, .int x1), (2, .int x2), (3, .int x3), (4, .int x4)] [] σ bc bs := by
  refine gx_aload_nq (r := some a0) h 0 rfl dX4_paired_0 ?_
  refine gcg_X4_53 h rfl rfl k.1 dX4_paired_1 ?_
  replace k := k.2
  obtain ⟨a4_1, e4_1, k⟩ := k
  refine gcg_X4_57 h rfl e4_1 k.1 dX4_paired_4 ?_
  replace k := k.2
  refine gx_iload_n h 2 rfl dX4_paired_7 ?_
  obtain ⟨a8_2, e8_2, k⟩ := k
  refine gc_aald18E (r := gc_R σ 702 a4_1) h e8_2 k.1 k.2.1 dX4_paired_8 ?_
  replace k := k.2.2
  refine gx_astoreq (r := gc_Q σ a8_2 x2.toNatClampNeg) (L' := [(5, va_rf (gc_Q σ a8_2 x2.toNatClampNeg)), (0, va_rf (some a0)), (1, .int x1), (2, .int x2), (3, .int x3), (4, .int x4)]) h (Nat.le_of_ble_eq_true rfl) rfl dX4_paired_9 ?_
  refine gx_aload_nq (r := some a0) h 1 rfl dX4_paired_11 ?_
  refine gcg_X4_62 h rfl rfl k.1 dX4_paired_12 ?_
  replace k := k.2
  obtain ⟨a15_3, e15_3, k⟩ := k
  refine gcg_X4_57 h rfl e15_3 k.1 dX4_paired_15 ?_
  replace k := k.2
  refine gx_iload h 5 rfl dX4_paired_18 ?_
  obtain ⟨a20_4, e20_4, k⟩ := k
  refine gc_aald18E (r := gc_R σ 702 a15_3) h e20_4 k.1 k.2.1 dX4_paired_20 ?_
  replace k := k.2.2
  refine gx_astoreq (r := gc_Q σ a20_4 x4.toNatClampNeg) (L' := [(6, va_rf (gc_Q σ a20_4 x4.toNatClampNeg)), (5, va_rf (gc_Q σ a8_2 x2.toNatClampNeg)), (0, va_rf (some a0)), (1, .int x1), (2, .int x2), (3, .int x3), (4, .int x4)]) h (Nat.le_of_ble_eq_true rfl) (by generalize gc_Q σ a8_2 x2.toNatClampNeg = z; cases z <;> rfl) dX4_paired_21 ?_
  refine gx_aloadq (r := gc_Q σ a8_2 x2.toNatClampNeg) h 1 rfl dX4_paired_23 ?_
  refine gx_aloadq (r := gc_Q σ a20_4 x4.toNatClampNeg) h 0 rfl dX4_paired_25 ?_
  obtain ⟨a27_5, e27_5, k⟩ := k
  refine gcc_X4_65 (r := gc_Q σ a8_2 x2.toNatClampNeg) (a0 := gc_Q σ a20_4 x4.toNatClampNeg) h rfl ⟨Nat.le_refl _, Nat.le_refl _⟩ e27_5 k.1 (Nat.le_of_ble_eq_true rfl) dX4_paired_27 (vC_fits_mono k.2 ?_)
  rintro _ σ27 ⟨r27, rfl, k⟩
  refine ⟨r27, rfl, ?_⟩
  refine gx_if_ne (tgt := 36) h (by decide) dX4_paired_30 (fun c => ?_) (fun c => ?_)
  · replace k := k.2 c
    refine gx_aload_nq (r := some a0) h 2 rfl dX4_paired_36 ?_
    refine gcg_X4_20 h rfl rfl k.1 dX4_paired_37 ?_
    replace k := k.2
    refine gx_aloadq (r := gc_Q σ a8_2 x2.toNatClampNeg) h 1 rfl dX4_paired_40 ?_
    refine gcg_X4_72 h rfl e27_5 k.1 dX4_paired_42 ?_
    replace k := k.2
    refine gx_iload_n h 3 rfl dX4_paired_45 ?_
    refine gx_isub h dX4_paired_46 ?_
    obtain ⟨a47_6, e47_6, k⟩ := k
    refine gc_aald17E (r := gc_R σ27 404 a0) h e47_6 k.1 k.2.1 dX4_paired_47 ?_
    replace k := k.2.2
    refine gx_aloadq (r := gc_Q σ a20_4 x4.toNatClampNeg) h 0 rfl dX4_paired_48 ?_
    obtain ⟨a50_7, e50_7, k⟩ := k
    refine gcg_X4_72 h rfl e50_7 k.1 dX4_paired_50 ?_
    replace k := k.2
    refine gx_iload_n h 5 rfl dX4_paired_53 ?_
    refine gx_isub h dX4_paired_54 ?_
    obtain ⟨a55_8, e55_8, k⟩ := k
    refine gc_ialdE (r := gc_Q σ27 a47_6 ((gc_I σ27 807 a27_5) - x1).toNatClampNeg) h e55_8 k.1 k.2.1 dX4_paired_55 ?_
    replace k := k.2.2
    refine gx_aload_nq (r := some a0) h 2 rfl dX4_paired_56 ?_
    refine gcg_X4_17 h rfl rfl k.1 dX4_paired_57 ?_
    replace k := k.2
    refine gx_iload_n h 4 rfl dX4_paired_60 ?_
    obtain ⟨a61_9, e61_9, k⟩ := k
    refine gc_aald17E (r := gc_R σ27 403 a0) h e61_9 k.1 k.2.1 dX4_paired_61 ?_
    replace k := k.2.2
    refine gx_iload h 6 rfl dX4_paired_62 ?_
    obtain ⟨a64_10, e64_10, k⟩ := k
    refine gc_ialdE (r := gc_Q σ27 a61_9 x2.toNatClampNeg) h e64_10 k.1 k.2.1 dX4_paired_64 ?_
    replace k := k.2.2
    refine gx_iadd h dX4_paired_65 ?_
    refine gx_aload_nq (r := some a0) h 2 rfl dX4_paired_66 ?_
    refine gx_aloadq (r := gc_Q σ a8_2 x2.toNatClampNeg) h 1 rfl dX4_paired_67 ?_
    refine gx_aloadq (r := gc_Q σ a20_4 x4.toNatClampNeg) h 0 rfl dX4_paired_69 ?_
    refine gcc_X4_76 (r := some a0) (a0 := gc_Q σ a8_2 x2.toNatClampNeg) (a1 := gc_Q σ a20_4 x4.toNatClampNeg) h rfl ⟨Nat.le_refl _, Nat.le_refl _⟩ rfl k.1 (Nat.le_of_ble_eq_true rfl) dX4_paired_71 (gx_C.mono k.2 ?_)
    rintro _ σ71 ⟨r71, rfl, k⟩
    refine ⟨r71, rfl, ?_⟩
    refine gx_iadd h dX4_paired_74 ?_
    exact gx_iret h rfl dX4_paired_75 (⟨_, rfl, k⟩)
  · replace k := k.1 c
    refine gx_ldc (v := 2147483647) h q1063 dX4_paired_33 ?_
    exact gx_iret h rfl dX4_paired_35 (⟨_, rfl, k⟩)
/-! X4.cost -/
theorem ec_X4_cost {θ : gc_T} {P : Int32 → gc_S → Prop} {σ : gc_S} {n : Nat} {a0 : Nat} {x1 : Option Nat} {x2 : Option Nat} (body : ∀ K, gc_K θ K (nX4_cost (n + 1)) → gc_G θ K (nX4_cost (n + 1)) (gc_Pi P) 0 [(0, va_rf (some a0)), (1, va_rf x1), (2, va_rf x2)] [] σ 0 0) : gx_C (gc_O θ) (nX4_cost (n + 1)) [.ref a0, va_rf x1, va_rf x2] σ (gc_Pi P) := by
  refine gx_C.intro (gc_z_warm θ) rfl (by cases x1 <;>  cases x2 <;> exact Nat.le_of_ble_eq_true rfl) (fun K h => ?_)
  have k := body K h
  cases x1 <;>  cases x2 <;> exact k
theorem bc_X4_cost_0 {θ : gc_T} {K : gx_K} {P : Int32 → gc_S → Prop} {σ : gc_S} {x1 x2 : Option Nat} {a0 n bc bs : Nat} (h : gc_K θ K (nX4_cost (n + 1))) (k : ∃ a1_1 : Nat, x1 = some a1_1 ∧ gc_isN σ a1_1 ∧ ∃ a5_2 : Nat, x2 = some a5_2 ∧ gc_isN σ a5_2 ∧ gx_C (gc_O θ) (nX0_isSame n) [va_rf (gc_R σ 801 a1_1), va_rf (gc_R σ 801 a5_2)] σ (gc_Pi (fun r8 σ8 => ((r8 = 0 → gc_is σ8 a0 4 ∧ ∃ a23_3 : Nat, gc_R σ8 400 a0 = some a23_3 ∧ gc_is σ8 a23_3 14 ∧ vp_in 0 (gc_n σ8 a23_3) ∧ gc_G θ K (nX4_cost (n + 1)) (gc_Pi P) 24 [(0, va_rf (some a0)), (1, va_rf x1), (2, va_rf x2)] [.int (gc_E σ8 a23_3 (0 : Int32).toNatClampNeg)] σ8 bc bs) ∧ (¬ r8 = 0 → gc_G θ K (nX4_cost (n + 1)) (gc_Pi P) 24 [(0, va_rf (some a0)), (1, va_rf x1), (2, va_rf x2)] [.int 0] σ8 bc bs))))) : gc_G θ K (nX4_cost (n + 1)) (gc_Pi P) 0 [(0, va_rf (some a0)), (1, va_rf x1), (2, va_rf x2)] [] σ bc bs := by
  refine gx_aload_nq (r := x1) h 1 rfl dX4_cost_0 ?_
  obtain ⟨a1_1, e1_1, k⟩ := k
  refine gcg_X4_33 h rfl e1_1 k.1 dX4_cost_1 ?_
  replace k := k.2
  refine gx_aload_nq (r := x2) h 2 rfl dX4_cost_4 ?_
  obtain ⟨a5_2, e5_2, k⟩ := k
  refine gcg_X4_33 h rfl e5_2 k.1 dX4_cost_5 ?_
  replace k := k.2
  refine gcc_X4_37 (a0 := gc_R σ 801 a1_1) (a1 := gc_R σ 801 a5_2) h rfl ⟨Nat.le_refl _, Nat.le_refl _⟩ (Nat.le_of_ble_eq_true rfl) dX4_cost_8 (gx_C.mono k ?_)
  rintro _ σ8 ⟨r8, rfl, k⟩
  refine ⟨r8, rfl, ?_⟩
  refine gx_if_eq (tgt := 18) h (by decide) dX4_cost_11 (fun c => ?_) (fun c => ?_)
  · replace k := k.1 c
    refine gx_aload_nq (r := some a0) h 0 rfl dX4_cost_18 ?_
    refine gcg_X4_9 h rfl rfl k.1 dX4_cost_19 ?_
    replace k := k.2
    refine gx_iconst (v := 0) h dX4_cost_22 (by decide) ?_
    obtain ⟨a23_3, e23_3, k⟩ := k
    refine gc_ialdE (r := gc_R σ8 400 a0) h e23_3 k.1 k.2.1 dX4_cost_23 ?_
    replace k := k.2.2
    exact k
  · replace k := k.2 c
    refine gx_iconst (v := 0) h dX4_cost_14 (by decide) ?_
    refine gx_goto (tgt := 24) h (by decide) dX4_cost_15 ?_
    exact k
theorem bc_X4_cost_24 {θ : gc_T} {K : gx_K} {P : Int32 → gc_S → Prop} {σ : gc_S} {s0 : Int32} {x1 x2 : Option Nat} {a0 n bc bs : Nat} (h : gc_K θ K (nX4_cost (n + 1))) (k : ∃ a25_1 : Nat, x1 = some a25_1 ∧ gc_isN σ a25_1 ∧ ∃ a29_2 : Nat, x2 = some a29_2 ∧ gc_isN σ a29_2 ∧ gx_C (gc_O θ) (nX0_isSame n) [va_rf (gc_R σ 802 a25_1), va_rf (gc_R σ 802 a29_2)] σ (gc_Pi (fun r32 σ32 => ((r32 = 0 → gc_is σ32 a0 4 ∧ ∃ a47_3 : Nat, gc_R σ32 400 a0 = some a47_3 ∧ gc_is σ32 a47_3 14 ∧ vp_in 1 (gc_n σ32 a47_3) ∧ P (s0 + (gc_E σ32 a47_3 (1 : Int32).toNatClampNeg)) σ32) ∧ (¬ r32 = 0 → P (s0 + 0) σ32))))) : gc_G θ K (nX4_cost (n + 1)) (gc_Pi P) 24 [(0, va_rf (some a0)), (1, va_rf x1), (2, va_rf x2)] [.int s0] σ bc bs := by
  refine gx_aload_nq (r := x1) h 1 rfl dX4_cost_24 ?_
  obtain ⟨a25_1, e25_1, k⟩ := k
  refine gcg_X4_41 h rfl e25_1 k.1 dX4_cost_25 ?_
  replace k := k.2
  refine gx_aload_nq (r := x2) h 2 rfl dX4_cost_28 ?_
  obtain ⟨a29_2, e29_2, k⟩ := k
  refine gcg_X4_41 h rfl e29_2 k.1 dX4_cost_29 ?_
  replace k := k.2
  refine gcc_X4_37 (a0 := gc_R σ 802 a25_1) (a1 := gc_R σ 802 a29_2) h rfl ⟨Nat.le_refl _, Nat.le_refl _⟩ (Nat.le_of_ble_eq_true rfl) dX4_cost_32 (gx_C.mono k ?_)
  rintro _ σ32 ⟨r32, rfl, k⟩
  refine ⟨r32, rfl, ?_⟩
  refine gx_if_eq (tgt := 42) h (by decide) dX4_cost_35 (fun c => ?_) (fun c => ?_)
  · replace k := k.1 c
    refine gx_aload_nq (r := some a0) h 0 rfl dX4_cost_42 ?_
    refine gcg_X4_9 h rfl rfl k.1 dX4_cost_43 ?_
    replace k := k.2
    refine gx_iconst (v := 1) h dX4_cost_46 (by decide) ?_
    obtain ⟨a47_3, e47_3, k⟩ := k
    refine gc_ialdE (r := gc_R σ32 400 a0) h e47_3 k.1 k.2.1 dX4_cost_47 ?_
    replace k := k.2.2
    refine gx_iadd h dX4_cost_48 ?_
    exact gx_iret h rfl dX4_cost_49 (⟨_, rfl, k⟩)
  · replace k := k.2 c
    refine gx_iconst (v := 0) h dX4_cost_38 (by decide) ?_
    refine gx_goto (tgt := 48) h (by decide) dX4_cost_39 ?_
    refine gx_iadd h dX4_cost_48 ?_
    exact gx_iret h rfl dX4_cost_49 (⟨_, rfl, k⟩)
/-! X4.map -/
theorem ec_X4_map {θ : gc_T} {P : gc_S → Prop} {σ : gc_S} {n : Nat} {a0 : Nat} {x1 : Option Nat} {x2 : Option Nat} (body : ∀ K, gc_K θ K (nX4_map (n + 1)) → gc_G θ K (nX4_map (n + 1)) (gc_Pv P) 0 [(0, va_rf (some a0)), (1, va_rf x1), (2, va_rf x2)] [] σ 0 0) : gx_C (gc_O θ) (nX4_map (n + 1)) [.ref a0, va_rf x1, va_rf x2] σ (gc_Pv P) := by
  refine gx_C.intro (gc_z_warm θ) rfl (by cases x1 <;>  cases x2 <;> exact Nat.le_of_ble_eq_true rfl) (fun K h => ?_)
  have k := body K h
  cases x1 <;>  cases x2 <;> exact k
theorem bc_X4_map_0 {θ : gc_T} {K : gx_K} {P : gc_S → Prop} {σ : gc_S} {x1 x2 : Option Nat} {a0 n bc bs : Nat} (h : gc_K θ K (nX4_map (n + 1))) (k : gc_is σ a0 4 ∧ gx_C (gc_O θ) (nX4_distance n) (.ref a0 :: [va_rf x1, va_rf x2]) σ (gc_Pi (fun r3 σ3 => gc_G θ K (nX4_map (n + 1)) (gc_Pv P) 9 [(0, va_rf (some a0)), (1, va_rf x1), (2, va_rf x2), (3, .int 0)] [] σ3 bc bs))) : gc_G θ K (nX4_map (n + 1)) (gc_Pv P) 0 [(0, va_rf (some a0)), (1, va_rf x1), (2, va_rf x2)] [] σ bc bs := by
  refine gx_aload_nq (r := some a0) h 0 rfl dX4_map_0 ?_
  refine gx_aload_nq (r := x1) h 1 rfl dX4_map_1 ?_
  refine gx_aload_nq (r := x2) h 2 rfl dX4_map_2 ?_
  refine gcc_X4_87 (r := some a0) (a0 := x1) (a1 := x2) h rfl ⟨Nat.le_refl _, Nat.le_refl _⟩ rfl k.1 (Nat.le_of_ble_eq_true rfl) dX4_map_3 (gx_C.mono k.2 ?_)
  rintro _ σ3 ⟨r3, rfl, k⟩
  refine ⟨r3, rfl, ?_⟩
  refine gx_pop h rfl dX4_map_6 ?_
  refine gx_iconst (v := 0) h dX4_map_7 (by decide) ?_
  refine gx_istore_n (L' := [(3, .int 0), (0, va_rf (some a0)), (1, va_rf x1), (2, va_rf x2)]) h (Nat.le_of_ble_eq_true rfl) (by generalize x2 = z; cases z <;> rfl) dX4_map_8 ?_
  exact gx_sub [1, 2, 3, 0] rfl k
theorem bc_X4_map_9 {θ : gc_T} {K : gx_K} {P : gc_S → Prop} {σ : gc_S} {x3 : Int32} {x1 x2 : Option Nat} {a0 n bc bs : Nat} (h : gc_K θ K (nX4_map (n + 1))) (k : ((30 ≤ x3 → ∃ a38_1 : Nat, x1 = some a38_1 ∧ gc_is σ a38_1 7 ∧ ∃ a43_2 : Nat, x2 = some a43_2 ∧ gc_is σ a43_2 7 ∧ gc_is σ a0 4 ∧ gx_C (gc_O θ) (nX4_map_2 n) (.ref a0 :: [.int 0, .int (gc_I σ 703 a38_1), .int 0, .int (gc_I σ 703 a43_2)]) σ (gc_Pv (fun σ46 => P σ46))) ∧ (¬ 30 ≤ x3 → gc_is σ a0 4 ∧ ∃ a21_3 : Nat, gc_R σ 405 a0 = some a21_3 ∧ gc_is σ a21_3 18 ∧ vp_in x3 (gc_n σ a21_3) ∧ (∀ v, none = some v → gc_isN σ v) ∧ ∀ σ21, σ21 = gc_sQ σ a21_3 x3.toNatClampNeg none → gc_is σ21 a0 4 ∧ ∃ a28_4 : Nat, gc_R σ21 406 a0 = some a28_4 ∧ gc_is σ21 a28_4 16 ∧ vp_in x3 (gc_n σ21 a28_4) ∧ ∀ σ28, σ28 = gc_sE σ21 a28_4 x3.toNatClampNeg (vp_nar .boolean 0) → gc_G θ K (nX4_map (n + 1)) (gc_Pv P) 9 [(0, va_rf (some a0)), (1, va_rf x1), (2, va_rf x2), (3, .int (x3 + 1))] [] σ28 bc bs))) : gc_G θ K (nX4_map (n + 1)) (gc_Pv P) 9 [(0, va_rf (some a0)), (1, va_rf x1), (2, va_rf x2), (3, .int x3)] [] σ bc bs := by
  refine gx_iload_n h 3 rfl dX4_map_9 ?_
  refine gx_bipush (v := 30) h dX4_map_10 (by decide) ?_
  refine gx_icmp_ge (tgt := 35) h (by decide) dX4_map_12 (fun c => ?_) (fun c => ?_)
  · replace k := k.1 c
    refine gx_aload_nq (r := some a0) h 0 rfl dX4_map_35 ?_
    refine gx_iconst (v := 0) h dX4_map_36 (by decide) ?_
    refine gx_aload_nq (r := x1) h 1 rfl dX4_map_37 ?_
    obtain ⟨a38_1, e38_1, k⟩ := k
    refine gcg_X4_80 h rfl e38_1 k.1 dX4_map_38 ?_
    replace k := k.2
    refine gx_iconst (v := 0) h dX4_map_41 (by decide) ?_
    refine gx_aload_nq (r := x2) h 2 rfl dX4_map_42 ?_
    obtain ⟨a43_2, e43_2, k⟩ := k
    refine gcg_X4_80 h rfl e43_2 k.1 dX4_map_43 ?_
    replace k := k.2
    refine gcc_X4_91 (r := some a0) (a0 := 0) (a1 := gc_I σ 703 a38_1) (a2 := 0) (a3 := gc_I σ 703 a43_2) h rfl ⟨Nat.le_refl _, Nat.le_refl _⟩ rfl k.1 (Nat.le_of_ble_eq_true rfl) dX4_map_46 (gx_C.mono k.2 ?_)
    rintro _ σ46 ⟨rfl, k⟩
    refine ⟨rfl, ?_⟩
    exact gx_vret h rfl dX4_map_49 (⟨rfl, k⟩)
  · replace k := k.2 c
    refine gx_aload_nq (r := some a0) h 0 rfl dX4_map_15 ?_
    refine gcg_X4_25 h rfl rfl k.1 dX4_map_16 ?_
    replace k := k.2
    refine gx_iload_n h 3 rfl dX4_map_19 ?_
    refine gx_null h dX4_map_20 ?_
    obtain ⟨a21_3, e21_3, k⟩ := k
    refine gc_aast18E (r := gc_R σ 405 a0) (w := none) h e21_3 k.1 k.2.1 k.2.2.1 dX4_map_21 ?_
    generalize hz : gc_sQ σ a21_3 x3.toNatClampNeg none = σ21
    replace k := k.2.2.2 σ21 hz.symm
    refine gx_aload_nq (r := some a0) h 0 rfl dX4_map_22 ?_
    refine gcg_X4_29 h rfl rfl k.1 dX4_map_23 ?_
    replace k := k.2
    refine gx_iload_n h 3 rfl dX4_map_26 ?_
    refine gx_iconst (v := 0) h dX4_map_27 (by decide) ?_
    obtain ⟨a28_4, e28_4, k⟩ := k
    refine gc_zastE (r := gc_R σ21 406 a0) h e28_4 k.1 k.2.1 dX4_map_28 ?_
    generalize hz : gc_sE σ21 a28_4 x3.toNatClampNeg (vp_nar .boolean 0) = σ28
    replace k := k.2.2 σ28 hz.symm
    refine gx_iinc (v := x3 + 1) (L' := [(3, .int (x3 + 1)), (0, va_rf (some a0)), (1, va_rf x1), (2, va_rf x2)]) h 3 rfl rfl (Nat.le_of_ble_eq_true rfl) (by generalize x2 = z; cases z <;> rfl) dX4_map_29 ?_
    refine gx_goto (tgt := 9) h (by decide) dX4_map_32 ?_
    exact gx_sub [1, 2, 3, 0] rfl k
/-! X4.map_2 -/
theorem ec_X4_map_2 {θ : gc_T} {P : gc_S → Prop} {σ : gc_S} {n : Nat} {a0 : Nat} {x1 : Int32} {x2 : Int32} {x3 : Int32} {x4 : Int32} (body : ∀ K, gc_K θ K (nX4_map_2 (n + 1)) → gc_G θ K (nX4_map_2 (n + 1)) (gc_Pv P) 0 [(0, va_rf (some a0)), (1, .int x1), (2, .int x2), (3, .int x3), (4, .int x4)] [] σ 0 0) : gx_C (gc_O θ) (nX4_map_2 (n + 1)) [.ref a0, .int x1, .int x2, .int x3, .int x4] σ (gc_Pv P) :=
  gx_C.intro (gc_z_warm θ) rfl (Nat.le_of_ble_eq_true rfl) body
theorem bc_X4_map_2_0 {θ : gc_T} {K : gx_K} {P : gc_S → Prop} {σ : gc_S} {x1 x2 x3 x4 : Int32} {a0 n bc bs : Nat} (h : gc_K θ K (nX4_map_2 (n + 1))) (k : gc_is σ a0 4 ∧ gx_C (gc_O θ) (nX4_forests n) (.ref a0 :: [.int x1, .int x2, .int x3, .int x4]) σ (gc_Pv (fun σ6 => gc_G θ K (nX4_map_2 (n + 1)) (gc_Pv P) 20 [(0, va_rf (some a0)), (1, .int x1), (2, .int x2), (3, .int x3), (4, .int x4), (5, .int (x2 - 1)), (6, .int (x4 - 1))] [] σ6 bc bs))) : gc_G θ K (nX4_map_2 (n + 1)) (gc_Pv P) 0 [(0, va_rf (some a0)), (1, .int x1), (2, .int x2), (3, .int x3), (4, .int x4)] [] σ bc bs := by
  refine gx_aload_nq (r := some a0) h 0 rfl dX4_map_2_0 ?_
  refine gx_iload_n h 1 rfl dX4_map_2_1 ?_
  refine gx_iload_n h 2 rfl dX4_map_2_2 ?_
  refine gx_iload_n h 3 rfl dX4_map_2_3 ?_
  refine gx_iload h 4 rfl dX4_map_2_4 ?_
  refine gcc_X4_83 (r := some a0) (a0 := x1) (a1 := x2) (a2 := x3) (a3 := x4) h rfl ⟨Nat.le_refl _, Nat.le_refl _⟩ rfl k.1 (Nat.le_of_ble_eq_true rfl) dX4_map_2_6 (gx_C.mono k.2 ?_)
  rintro _ σ6 ⟨rfl, k⟩
  refine ⟨rfl, ?_⟩
  refine gx_iload_n h 2 rfl dX4_map_2_9 ?_
  refine gx_iconst (v := 1) h dX4_map_2_10 (by decide) ?_
  refine gx_isub h dX4_map_2_11 ?_
  refine gx_istore (L' := [(5, .int (x2 - 1)), (0, va_rf (some a0)), (1, .int x1), (2, .int x2), (3, .int x3), (4, .int x4)]) h (Nat.le_of_ble_eq_true rfl) rfl dX4_map_2_12 ?_
  refine gx_iload h 5 rfl dX4_map_2_14 ?_
  refine gx_iconst (v := 1) h dX4_map_2_16 (by decide) ?_
  refine gx_isub h dX4_map_2_17 ?_
  refine gx_istore (L' := [(6, .int (x4 - 1)), (5, .int (x2 - 1)), (0, va_rf (some a0)), (1, .int x1), (2, .int x2), (3, .int x3), (4, .int x4)]) h (Nat.le_of_ble_eq_true rfl) rfl dX4_map_2_18 ?_
  exact gx_sub [2, 3, 4, 5, 6, 1, 0] rfl k
theorem bc_X4_map_2_20 {θ : gc_T} {K : gx_K} {P : gc_S → Prop} {σ : gc_S} {x1 x2 x3 x4 x5 x6 : Int32} {a0 n bc bs : Nat} (h : gc_K θ K (nX4_map_2 (n + 1))) (k : ((x5 < x1 → gc_G θ K (nX4_map_2 (n + 1)) (gc_Pv P) 202 [] [] σ bc bs) ∧ (¬ x5 < x1 → ((x6 < x3 → gc_G θ K (nX4_map_2 (n + 1)) (gc_Pv P) 202 [] [] σ bc bs) ∧ (¬ x6 < x3 → gc_is σ a0 4 ∧ ∃ a42_1 : Nat, gc_R σ 404 a0 = some a42_1 ∧ gc_is σ a42_1 17 ∧ vp_in ((x5 - x1) + 1) (gc_n σ a42_1) ∧ ∃ a49_2 : Nat, gc_Q σ a42_1 ((x5 - x1) + 1).toNatClampNeg = some a49_2 ∧ gc_is σ a49_2 14 ∧ vp_in ((x6 - x3) + 1) (gc_n σ a49_2) ∧ ∀ x7_50 : Int32, x7_50 = gc_E σ a49_2 ((x6 - x3) + 1).toNatClampNeg → gc_is σ a0 4 ∧ gx_C (gc_O θ) (nX4_paired n) (.ref a0 :: [.int x1, .int x5, .int x3, .int x6]) σ (gc_Pi (fun r59 σ59 => ((r59 = x7_50 → gc_is σ59 a0 4 ∧ ∃ a71_6 : Nat, gc_R σ59 401 a0 = some a71_6 ∧ gc_is σ59 a71_6 7 ∧ ∃ a76_7 : Nat, gc_R σ59 702 a71_6 = some a76_7 ∧ gc_is σ59 a76_7 18 ∧ vp_in x5 (gc_n σ59 a76_7) ∧ gc_is σ59 a0 4 ∧ ∃ a83_8 : Nat, gc_R σ59 402 a0 = some a83_8 ∧ gc_is σ59 a83_8 7 ∧ ∃ a88_9 : Nat, gc_R σ59 702 a83_8 = some a88_9 ∧ gc_is σ59 a88_9 18 ∧ vp_in x6 (gc_n σ59 a88_9) ∧ gc_is σ59 a0 4 ∧ ∃ a97_10 : Nat, gc_Q σ59 a76_7 x5.toNatClampNeg = some a97_10 ∧ gc_isN σ59 a97_10 ∧ ∃ a102_11 : Nat, gc_R σ59 405 a0 = some a102_11 ∧ gc_is σ59 a102_11 18 ∧ vp_in (gc_I σ59 805 a97_10) (gc_n σ59 a102_11) ∧ (∀ v, gc_Q σ59 a88_9 x6.toNatClampNeg = some v → gc_isN σ59 v) ∧ ∀ σ102, σ102 = gc_sQ σ59 a102_11 (gc_I σ59 805 a97_10).toNatClampNeg (gc_Q σ59 a88_9 x6.toNatClampNeg) → gc_is σ102 a0 4 ∧ ∃ a109_12 : Nat, gc_Q σ59 a88_9 x6.toNatClampNeg = some a109_12 ∧ gc_isN σ102 a109_12 ∧ ∃ a113_13 : Nat, gc_R σ102 406 a0 = some a113_13 ∧ gc_is σ102 a113_13 16 ∧ vp_in (gc_I σ102 805 a109_12) (gc_n σ102 a113_13) ∧ ∀ σ113, σ113 = gc_sE σ102 a113_13 (gc_I σ102 805 a109_12).toNatClampNeg (vp_nar .boolean 1) → gc_isN σ113 a97_10 ∧ gc_isN σ113 a109_12 ∧ gc_is σ113 a0 4 ∧ gx_C (gc_O θ) (nX4_map_2 n) (.ref a0 :: [.int (gc_I σ113 807 a97_10), .int x5, .int (gc_I σ113 807 a109_12), .int x6]) σ113 (gc_Pv (fun σ129 => gc_is σ129 a0 4 ∧ gx_C (gc_O θ) (nX4_forests n) (.ref a0 :: [.int x1, .int x2, .int x3, .int x4]) σ129 (gc_Pv (fun σ138 => gc_isN σ138 a97_10 ∧ ∀ x5_148 : Int32, x5_148 = (gc_I σ138 807 a97_10) - 1 → gc_isN σ138 a109_12 ∧ ∀ x6_157 : Int32, x6_157 = (gc_I σ138 807 a109_12) - 1 → gc_G θ K (nX4_map_2 (n + 1)) (gc_Pv P) 199 [(0, va_rf (some a0)), (1, .int x1), (2, .int x2), (3, .int x3), (4, .int x4), (5, .int x5_148), (6, .int x6_157)] [] σ138 bc bs))))) ∧ (¬ r59 = x7_50 → gc_is σ59 a0 4 ∧ ∃ a170_3 : Nat, gc_R σ59 404 a0 = some a170_3 ∧ gc_is σ59 a170_3 17 ∧ vp_in (x5 - x1) (gc_n σ59 a170_3) ∧ ∃ a177_4 : Nat, gc_Q σ59 a170_3 (x5 - x1).toNatClampNeg = some a177_4 ∧ gc_is σ59 a177_4 14 ∧ vp_in ((x6 - x3) + 1) (gc_n σ59 a177_4) ∧ gc_is σ59 a0 4 ∧ ∃ a183_5 : Nat, gc_R σ59 400 a0 = some a183_5 ∧ gc_is σ59 a183_5 14 ∧ vp_in 3 (gc_n σ59 a183_5) ∧ ((((gc_E σ59 a177_4 ((x6 - x3) + 1).toNatClampNeg) + (gc_E σ59 a183_5 (3 : Int32).toNatClampNeg)) = x7_50 → gc_G θ K (nX4_map_2 (n + 1)) (gc_Pv P) 199 [(0, va_rf (some a0)), (1, .int x1), (2, .int x2), (3, .int x3), (4, .int x4), (5, .int (x5 + (-1))), (6, .int x6)] [] σ59 bc bs) ∧ (¬ ((gc_E σ59 a177_4 ((x6 - x3) + 1).toNatClampNeg) + (gc_E σ59 a183_5 (3 : Int32).toNatClampNeg)) = x7_50 → gc_G θ K (nX4_map_2 (n + 1)) (gc_Pv P) 199 [(0, va_rf (some a0)), (1, .int x1), (2, .int x2), (3, .int x3), (4, .int x4), (5, .int x5), (6, .int (x6 + (-1)))] [] σ59 bc bs))))))))))) : gc_G θ K (nX4_map_2 (n + 1)) (gc_Pv P) 20 [(0, va_rf (some a0)), (1, .int x1), (2, .int x2), (3, .int x3), (4, .int x4), (5, .int x5), (6, .int x6)] [] σ bc bs := by
  refine gx_iload h 5 rfl dX4_map_2_20 ?_
  refine gx_iload_n h 1 rfl dX4_map_2_22 ?_
  refine gx_icmp_lt (tgt := 202) h (by decide) dX4_map_2_23 (fun c => ?_) (fun c => ?_)
  · replace k := k.1 c
    exact gx_sub [] rfl k
  · replace k := k.2 c
    refine gx_iload h 6 rfl dX4_map_2_26 ?_
    refine gx_iload_n h 3 rfl dX4_map_2_28 ?_
    refine gx_icmp_lt (tgt := 202) h (by decide) dX4_map_2_29 (fun c => ?_) (fun c => ?_)
    · replace k := k.1 c
      exact gx_sub [] rfl k
    · replace k := k.2 c
      refine gx_aload_nq (r := some a0) h 0 rfl dX4_map_2_32 ?_
      refine gcg_X4_20 h rfl rfl k.1 dX4_map_2_33 ?_
      replace k := k.2
      refine gx_iload h 5 rfl dX4_map_2_36 ?_
      refine gx_iload_n h 1 rfl dX4_map_2_38 ?_
      refine gx_isub h dX4_map_2_39 ?_
      refine gx_iconst (v := 1) h dX4_map_2_40 (by decide) ?_
      refine gx_iadd h dX4_map_2_41 ?_
      obtain ⟨a42_1, e42_1, k⟩ := k
      refine gc_aald17E (r := gc_R σ 404 a0) h e42_1 k.1 k.2.1 dX4_map_2_42 ?_
      replace k := k.2.2
      refine gx_iload h 6 rfl dX4_map_2_43 ?_
      refine gx_iload_n h 3 rfl dX4_map_2_45 ?_
      refine gx_isub h dX4_map_2_46 ?_
      refine gx_iconst (v := 1) h dX4_map_2_47 (by decide) ?_
      refine gx_iadd h dX4_map_2_48 ?_
      obtain ⟨a49_2, e49_2, k⟩ := k
      refine gc_ialdE (r := gc_Q σ a42_1 ((x5 - x1) + 1).toNatClampNeg) h e49_2 k.1 k.2.1 dX4_map_2_49 ?_
      replace k := k.2.2
      generalize hz : (gc_E σ a49_2 ((x6 - x3) + 1).toNatClampNeg) = x7_50
      replace k := k x7_50 hz.symm
      refine gx_istore (L' := [(7, .int x7_50), (0, va_rf (some a0)), (1, .int x1), (2, .int x2), (3, .int x3), (4, .int x4), (5, .int x5), (6, .int x6)]) h (Nat.le_of_ble_eq_true rfl) rfl dX4_map_2_50 ?_
      refine gx_aload_nq (r := some a0) h 1 rfl dX4_map_2_52 ?_
      refine gx_iload_n h 2 rfl dX4_map_2_53 ?_
      refine gx_iload h 6 rfl dX4_map_2_54 ?_
      refine gx_iload_n h 4 rfl dX4_map_2_56 ?_
      refine gx_iload h 7 rfl dX4_map_2_57 ?_
      refine gcc_X4_50 (r := some a0) (a0 := x1) (a1 := x5) (a2 := x3) (a3 := x6) h rfl ⟨Nat.le_refl _, Nat.le_refl _⟩ rfl k.1 (Nat.le_of_ble_eq_true rfl) dX4_map_2_59 (gx_C.mono k.2 ?_)
      rintro _ σ59 ⟨r59, rfl, k⟩
      refine ⟨r59, rfl, ?_⟩
      refine gx_iload h 0 rfl dX4_map_2_62 ?_
      refine gx_icmp_ne (tgt := 162) h (by decide) dX4_map_2_64 (fun c => ?_) (fun c => ?_)
      · replace k := k.2 c
        refine gx_aload_nq (r := some a0) h 1 rfl dX4_map_2_162 ?_
        refine gcg_X4_20 h rfl rfl k.1 dX4_map_2_163 ?_
        replace k := k.2
        refine gx_iload h 6 rfl dX4_map_2_166 ?_
        refine gx_iload_n h 2 rfl dX4_map_2_168 ?_
        refine gx_isub h dX4_map_2_169 ?_
        obtain ⟨a170_3, e170_3, k⟩ := k
        refine gc_aald17E (r := gc_R σ59 404 a0) h e170_3 k.1 k.2.1 dX4_map_2_170 ?_
        replace k := k.2.2
        refine gx_iload h 7 rfl dX4_map_2_171 ?_
        refine gx_iload_n h 4 rfl dX4_map_2_173 ?_
        refine gx_isub h dX4_map_2_174 ?_
        refine gx_iconst (v := 1) h dX4_map_2_175 (by decide) ?_
        refine gx_iadd h dX4_map_2_176 ?_
        obtain ⟨a177_4, e177_4, k⟩ := k
        refine gc_ialdE (r := gc_Q σ59 a170_3 (x5 - x1).toNatClampNeg) h e177_4 k.1 k.2.1 dX4_map_2_177 ?_
        replace k := k.2.2
        refine gx_aload_nq (r := some a0) h 1 rfl dX4_map_2_178 ?_
        refine gcg_X4_9 h rfl rfl k.1 dX4_map_2_179 ?_
        replace k := k.2
        refine gx_iconst (v := 3) h dX4_map_2_182 (by decide) ?_
        obtain ⟨a183_5, e183_5, k⟩ := k
        refine gc_ialdE (r := gc_R σ59 400 a0) h e183_5 k.1 k.2.1 dX4_map_2_183 ?_
        replace k := k.2.2
        refine gx_iadd h dX4_map_2_184 ?_
        refine gx_iload h 0 rfl dX4_map_2_185 ?_
        refine gx_icmp_ne (tgt := 196) h (by decide) dX4_map_2_187 (fun c => ?_) (fun c => ?_)
        · replace k := k.2 c
          refine gx_iinc (v := x6 + (-1)) (L' := [(6, .int (x6 + (-1))), (7, .int x7_50), (0, va_rf (some a0)), (1, .int x1), (2, .int x2), (3, .int x3), (4, .int x4), (5, .int x5)]) h 7 rfl (congrArg (fun q => x6 + q) (by decide)) (Nat.le_of_ble_eq_true rfl) rfl dX4_map_2_196 ?_
          exact gx_sub [2, 3, 4, 5, 6, 7, 0] rfl k
        · replace k := k.1 c
          refine gx_iinc (v := x5 + (-1)) (L' := [(5, .int (x5 + (-1))), (7, .int x7_50), (0, va_rf (some a0)), (1, .int x1), (2, .int x2), (3, .int x3), (4, .int x4), (6, .int x6)]) h 6 rfl (congrArg (fun q => x5 + q) (by decide)) (Nat.le_of_ble_eq_true rfl) rfl dX4_map_2_190 ?_
          refine gx_goto (tgt := 199) h (by decide) dX4_map_2_193 ?_
          exact gx_sub [2, 3, 4, 5, 6, 0, 7] rfl k
      · replace k := k.1 c
        refine gx_aload_nq (r := some a0) h 1 rfl dX4_map_2_67 ?_
        refine gcg_X4_53 h rfl rfl k.1 dX4_map_2_68 ?_
        replace k := k.2
        obtain ⟨a71_6, e71_6, k⟩ := k
        refine gcg_X4_57 h rfl e71_6 k.1 dX4_map_2_71 ?_
        replace k := k.2
        refine gx_iload h 6 rfl dX4_map_2_74 ?_
        obtain ⟨a76_7, e76_7, k⟩ := k
        refine gc_aald18E (r := gc_R σ59 702 a71_6) h e76_7 k.1 k.2.1 dX4_map_2_76 ?_
        replace k := k.2.2
        refine gx_astoreq (r := gc_Q σ59 a76_7 x5.toNatClampNeg) (L' := [(8, va_rf (gc_Q σ59 a76_7 x5.toNatClampNeg)), (7, .int x7_50), (0, va_rf (some a0)), (1, .int x1), (2, .int x2), (3, .int x3), (4, .int x4), (5, .int x5), (6, .int x6)]) h (Nat.le_of_ble_eq_true rfl) rfl dX4_map_2_77 ?_
        refine gx_aload_nq (r := some a0) h 2 rfl dX4_map_2_79 ?_
        refine gcg_X4_62 h rfl rfl k.1 dX4_map_2_80 ?_
        replace k := k.2
        obtain ⟨a83_8, e83_8, k⟩ := k
        refine gcg_X4_57 h rfl e83_8 k.1 dX4_map_2_83 ?_
        replace k := k.2
        refine gx_iload h 8 rfl dX4_map_2_86 ?_
        obtain ⟨a88_9, e88_9, k⟩ := k
        refine gc_aald18E (r := gc_R σ59 702 a83_8) h e88_9 k.1 k.2.1 dX4_map_2_88 ?_
        replace k := k.2.2
        refine gx_astoreq (r := gc_Q σ59 a88_9 x6.toNatClampNeg) (L' := [(9, va_rf (gc_Q σ59 a88_9 x6.toNatClampNeg)), (8, va_rf (gc_Q σ59 a76_7 x5.toNatClampNeg)), (7, .int x7_50), (0, va_rf (some a0)), (1, .int x1), (2, .int x2), (3, .int x3), (4, .int x4), (5, .int x5), (6, .int x6)]) h (Nat.le_of_ble_eq_true rfl) (by generalize gc_Q σ59 a76_7 x5.toNatClampNeg = z; cases z <;> rfl) dX4_map_2_89 ?_
        refine gx_aload_nq (r := some a0) h 3 rfl dX4_map_2_91 ?_
        refine gcg_X4_25 h rfl rfl k.1 dX4_map_2_92 ?_
        replace k := k.2
        refine gx_aloadq (r := gc_Q σ59 a76_7 x5.toNatClampNeg) h 1 rfl dX4_map_2_95 ?_
        obtain ⟨a97_10, e97_10, k⟩ := k
        refine gcg_X4_94 h rfl e97_10 k.1 dX4_map_2_97 ?_
        replace k := k.2
        refine gx_aloadq (r := gc_Q σ59 a88_9 x6.toNatClampNeg) h 0 rfl dX4_map_2_100 ?_
        obtain ⟨a102_11, e102_11, k⟩ := k
        refine gc_aast18E (r := gc_R σ59 405 a0) (w := gc_Q σ59 a88_9 x6.toNatClampNeg) h e102_11 k.1 k.2.1 k.2.2.1 dX4_map_2_102 ?_
        generalize hz : gc_sQ σ59 a102_11 (gc_I σ59 805 a97_10).toNatClampNeg (gc_Q σ59 a88_9 x6.toNatClampNeg) = σ102
        replace k := k.2.2.2 σ102 hz.symm
        refine gx_aload_nq (r := some a0) h 3 rfl dX4_map_2_103 ?_
        refine gcg_X4_29 h rfl rfl k.1 dX4_map_2_104 ?_
        replace k := k.2
        refine gx_aloadq (r := gc_Q σ59 a88_9 x6.toNatClampNeg) h 0 rfl dX4_map_2_107 ?_
        obtain ⟨a109_12, e109_12, k⟩ := k
        refine gcg_X4_94 h rfl e109_12 k.1 dX4_map_2_109 ?_
        replace k := k.2
        refine gx_iconst (v := 1) h dX4_map_2_112 (by decide) ?_
        obtain ⟨a113_13, e113_13, k⟩ := k
        refine gc_zastE (r := gc_R σ102 406 a0) h e113_13 k.1 k.2.1 dX4_map_2_113 ?_
        generalize hz : gc_sE σ102 a113_13 (gc_I σ102 805 a109_12).toNatClampNeg (vp_nar .boolean 1) = σ113
        replace k := k.2.2 σ113 hz.symm
        refine gx_aload_nq (r := some a0) h 3 rfl dX4_map_2_114 ?_
        refine gx_aloadq (r := gc_Q σ59 a76_7 x5.toNatClampNeg) h 1 rfl dX4_map_2_115 ?_
        refine gcg_X4_72 h rfl e97_10 k.1 dX4_map_2_117 ?_
        replace k := k.2
        refine gx_iload h 8 rfl dX4_map_2_120 ?_
        refine gx_aloadq (r := gc_Q σ59 a88_9 x6.toNatClampNeg) h 0 rfl dX4_map_2_122 ?_
        refine gcg_X4_72 h rfl e109_12 k.1 dX4_map_2_124 ?_
        replace k := k.2
        refine gx_iload h 9 rfl dX4_map_2_127 ?_
        refine gcc_X4_91 (r := some a0) (a0 := gc_I σ113 807 a97_10) (a1 := x5) (a2 := gc_I σ113 807 a109_12) (a3 := x6) h rfl ⟨Nat.le_refl _, Nat.le_refl _⟩ rfl k.1 (Nat.le_of_ble_eq_true rfl) dX4_map_2_129 (gx_C.mono k.2 ?_)
        rintro _ σ129 ⟨rfl, k⟩
        refine ⟨rfl, ?_⟩
        refine gx_aload_nq (r := some a0) h 3 rfl dX4_map_2_132 ?_
        refine gx_iload_n h 4 rfl dX4_map_2_133 ?_
        refine gx_iload_n h 5 rfl dX4_map_2_134 ?_
        refine gx_iload_n h 6 rfl dX4_map_2_135 ?_
        refine gx_iload h 7 rfl dX4_map_2_136 ?_
        refine gcc_X4_83 (r := some a0) (a0 := x1) (a1 := x2) (a2 := x3) (a3 := x4) h rfl ⟨Nat.le_refl _, Nat.le_refl _⟩ rfl k.1 (Nat.le_of_ble_eq_true rfl) dX4_map_2_138 (gx_C.mono k.2 ?_)
        rintro _ σ138 ⟨rfl, k⟩
        refine ⟨rfl, ?_⟩
        refine gx_aloadq (r := gc_Q σ59 a76_7 x5.toNatClampNeg) h 1 rfl dX4_map_2_141 ?_
        refine gcg_X4_72 h rfl e97_10 k.1 dX4_map_2_143 ?_
        replace k := k.2
        refine gx_iconst (v := 1) h dX4_map_2_146 (by decide) ?_
        refine gx_isub h dX4_map_2_147 ?_
        generalize hz : ((gc_I σ138 807 a97_10) - 1) = x5_148
        replace k := k x5_148 hz.symm
        refine gx_istore (L' := [(5, .int x5_148), (9, va_rf (gc_Q σ59 a88_9 x6.toNatClampNeg)), (8, va_rf (gc_Q σ59 a76_7 x5.toNatClampNeg)), (7, .int x7_50), (0, va_rf (some a0)), (1, .int x1), (2, .int x2), (3, .int x3), (4, .int x4), (6, .int x6)]) h (Nat.le_of_ble_eq_true rfl) rfl dX4_map_2_148 ?_
        refine gx_aloadq (r := gc_Q σ59 a88_9 x6.toNatClampNeg) h 1 rfl dX4_map_2_150 ?_
        refine gcg_X4_72 h rfl e109_12 k.1 dX4_map_2_152 ?_
        replace k := k.2
        refine gx_iconst (v := 1) h dX4_map_2_155 (by decide) ?_
        refine gx_isub h dX4_map_2_156 ?_
        generalize hz : ((gc_I σ138 807 a109_12) - 1) = x6_157
        replace k := k x6_157 hz.symm
        refine gx_istore (L' := [(6, .int x6_157), (5, .int x5_148), (9, va_rf (gc_Q σ59 a88_9 x6.toNatClampNeg)), (8, va_rf (gc_Q σ59 a76_7 x5.toNatClampNeg)), (7, .int x7_50), (0, va_rf (some a0)), (1, .int x1), (2, .int x2), (3, .int x3), (4, .int x4)]) h (Nat.le_of_ble_eq_true rfl) rfl dX4_map_2_157 ?_
        refine gx_goto (tgt := 199) h (by decide) dX4_map_2_159 ?_
        exact gx_sub [5, 6, 7, 8, 9, 1, 0] rfl k
theorem bc_X4_map_2_199 {θ : gc_T} {K : gx_K} {P : gc_S → Prop} {σ : gc_S} {x1 x2 x3 x4 x5 x6 : Int32} {a0 n bc bs : Nat} (h : gc_K θ K (nX4_map_2 (n + 1))) (k : gc_G θ K (nX4_map_2 (n + 1)) (gc_Pv P) 20 [(0, va_rf (some a0)), (1, .int x1), (2, .int x2), (3, .int x3), (4, .int x4), (5, .int x5), (6, .int x6)] [] σ bc bs) : gc_G θ K (nX4_map_2 (n + 1)) (gc_Pv P) 199 [(0, va_rf (some a0)), (1, .int x1), (2, .int x2), (3, .int x3), (4, .int x4), (5, .int x5), (6, .int x6)] [] σ bc bs := by
  refine gx_goto (tgt := 20) h (by decide) dX4_map_2_199 ?_
  exact k
theorem bc_X4_map_2_202 {θ : gc_T} {K : gx_K} {P : gc_S → Prop} {σ : gc_S} {n bc bs : Nat} (h : gc_K θ K (nX4_map_2 (n + 1))) (k : P σ) : gc_G θ K (nX4_map_2 (n + 1)) (gc_Pv P) 202 [] [] σ bc bs := by
  exact gx_vret h rfl dX4_map_2_202 (⟨rfl, k⟩)
/-! X5.init -/
theorem ec_X5_init {θ : gc_T} {P : gc_S → Prop} {σ : gc_S} {n c s : Nat} {a0 : Nat} (body : ∀ K, gc_K θ K (nX5_init (n + 1) c s) → gc_G θ K (nX5_init (n + 1) c s) (gc_Pv P) 0 [(0, va_rf (some a0))] [] σ c s) : gx_C (gc_O θ) (nX5_init (n + 1) c s) [.ref a0] σ (gc_Pv P) :=
  gx_C.intro (gc_z_warm θ) rfl (Nat.le_of_ble_eq_true rfl) body
theorem bc_X5_init_0 {θ : gc_T} {K : gx_K} {P : gc_S → Prop} {σ : gc_S} {a0 n c s bc bs : Nat} (h : gc_K θ K (nX5_init (n + 1) c s)) (k : ¬ (60 : Int32) < 0 ∧ (60 : Int32).toNatClampNeg ≤ 100000 ∧ 1 ≤ bc ∧ (60 : Int32).toNatClampNeg ≤ bs ∧ ∀ q7, q7 ∉ gc_d σ → gc_A θ q7 → ∀ σ7, σ7 = gc_new σ q7 17 (60 : Int32).toNatClampNeg → gc_is σ7 a0 5 ∧ ∀ σ10, σ10 = gc_sR σ7 500 a0 (some q7) → P σ10) : gc_G θ K (nX5_init (n + 1) c s) (gc_Pv P) 0 [(0, va_rf (some a0))] [] σ bc bs := by
  refine gx_aload_nq (r := some a0) h 0 rfl dX5_init_0 ?_
  refine gcc_X5_3 (n := n) (r := some a0) h rfl ⟨Nat.le_refl _, Nat.le_refl _⟩ rfl (Nat.le_of_ble_eq_true rfl) dX5_init_1 ?_
  refine gx_aload_nq (r := some a0) h 0 rfl dX5_init_4 ?_
  refine gx_bipush (v := 60) h dX5_init_5 (by decide) ?_
  refine gc_newA h rfl q271 q236 k.1 k.2.1 dX5_init_7 k.2.2.1 k.2.2.2.1 (fun q7 hq hA => ?_)
  generalize hz : gc_new σ q7 17 (60 : Int32).toNatClampNeg = σ7
  replace k := k.2.2.2.2 q7 hq hA σ7 hz.symm
  refine gcp_X5_11 (v := some q7) h rfl rfl rfl k.1 dX5_init_10 ?_
  generalize hz : gc_sR σ7 500 a0 (some q7) = σ10
  replace k := k.2 σ10 hz.symm
  exact gx_vret h rfl dX5_init_13 (⟨rfl, k⟩)
/-! X5.clear -/
theorem ec_X5_clear {θ : gc_T} {P : gc_S → Prop} {σ : gc_S} {n : Nat} {a0 : Nat} (body : ∀ K, gc_K θ K (nX5_clear n) → gc_G θ K (nX5_clear n) (gc_Pv P) 0 [(0, va_rf (some a0))] [] σ 0 0) : gx_C (gc_O θ) (nX5_clear n) [.ref a0] σ (gc_Pv P) :=
  gx_C.intro (gc_z_warm θ) rfl (Nat.le_of_ble_eq_true rfl) body
theorem bc_X5_clear_0 {θ : gc_T} {K : gx_K} {P : gc_S → Prop} {σ : gc_S} {a0 n bc bs : Nat} (h : gc_K θ K (nX5_clear n)) (k : gc_is σ a0 5 ∧ ∀ σ2, σ2 = gc_sI σ 501 a0 0 → P σ2) : gc_G θ K (nX5_clear n) (gc_Pv P) 0 [(0, va_rf (some a0))] [] σ bc bs := by
  refine gx_aload_nq (r := some a0) h 0 rfl dX5_clear_0 ?_
  refine gx_iconst (v := 0) h dX5_clear_1 (by decide) ?_
  refine gcp_X5_17 (v := 0) h rfl rfl k.1 dX5_clear_2 ?_
  generalize hz : gc_sI σ 501 a0 0 = σ2
  replace k := k.2 σ2 hz.symm
  exact gx_vret h rfl dX5_clear_5 (⟨rfl, k⟩)
/-! X5.number -/
theorem ec_X5_number {θ : gc_T} {P : gc_S → Prop} {σ : gc_S} {n c s : Nat} {a0 : Nat} {x1 : Option Nat} (body : ∀ K, gc_K θ K (nX5_number (n + 1) c s) → gc_G θ K (nX5_number (n + 1) c s) (gc_Pv P) 0 [(0, va_rf (some a0)), (1, va_rf x1)] [] σ c s) : gx_C (gc_O θ) (nX5_number (n + 1) c s) [.ref a0, va_rf x1] σ (gc_Pv P) := by
  refine gx_C.intro (gc_z_warm θ) rfl (by cases x1 <;> exact Nat.le_of_ble_eq_true rfl) (fun K h => ?_)
  have k := body K h
  cases x1 <;> exact k
theorem bc_X5_number_0 {θ : gc_T} {K : gx_K} {P : gc_S → Prop} {σ : gc_S} {x1 : Option Nat} {a0 n c s bc bs : Nat} (h : gc_K θ K (nX5_number (n + 1) c s)) (k : gc_G θ K (nX5_number (n + 1) c s) (gc_Pv P) 2 [(0, va_rf (some a0)), (1, va_rf x1), (2, .int 0)] [] σ bc bs) : gc_G θ K (nX5_number (n + 1) c s) (gc_Pv P) 0 [(0, va_rf (some a0)), (1, va_rf x1)] [] σ bc bs := by
  refine gx_iconst (v := 0) h dX5_number_0 (by decide) ?_
  refine gx_istore_n (L' := [(2, .int 0), (0, va_rf (some a0)), (1, va_rf x1)]) h (Nat.le_of_ble_eq_true rfl) (by generalize x1 = z; cases z <;> rfl) dX5_number_1 ?_
  exact gx_sub [1, 2, 0] rfl k
theorem bc_X5_number_2 {θ : gc_T} {K : gx_K} {P : gc_S → Prop} {σ : gc_S} {x2 : Int32} {x1 : Option Nat} {a0 n c s bc bs : Nat} (h : gc_K θ K (nX5_number (n + 1) c s)) (k : ∃ a4_1 : Nat, x1 = some a4_1 ∧ gc_is σ a4_1 7 ∧ (((gc_I σ 703 a4_1) ≤ x2 → P σ) ∧ (¬ (gc_I σ 703 a4_1) ≤ x2 → gc_is σ a4_1 7 ∧ ∃ a15_2 : Nat, gc_R σ 702 a4_1 = some a15_2 ∧ gc_is σ a15_2 18 ∧ vp_in x2 (gc_n σ a15_2) ∧ gc_is σ a4_1 7 ∧ gc_is σ a15_2 18 ∧ vp_in x2 (gc_n σ a15_2) ∧ ∃ c23 s23 : Nat, (c23 ≤ bc ∧ s23 ≤ bs) ∧ gc_is σ a0 5 ∧ gx_C (gc_O θ) (nX5_which n c23 s23) (.ref a0 :: [va_rf (gc_Q σ a15_2 x2.toNatClampNeg)]) σ (gc_Pi (fun r23 σ23 => ∃ a26_3 : Nat, gc_Q σ a15_2 x2.toNatClampNeg = some a26_3 ∧ gc_isN σ23 a26_3 ∧ ∀ σ26, σ26 = gc_sI σ23 809 a26_3 r23 → gc_G θ K (nX5_number (n + 1) c s) (gc_Pv P) 2 [(0, va_rf (some a0)), (1, va_rf x1), (2, .int (x2 + 1))] [] σ26 (bc - c23) (bs - s23)))))) : gc_G θ K (nX5_number (n + 1) c s) (gc_Pv P) 2 [(0, va_rf (some a0)), (1, va_rf x1), (2, .int x2)] [] σ bc bs := by
  refine gx_iload_n h 2 rfl dX5_number_2 ?_
  refine gx_aload_nq (r := x1) h 1 rfl dX5_number_3 ?_
  obtain ⟨a4_1, e4_1, k⟩ := k
  refine gcg_X5_21 h rfl e4_1 k.1 dX5_number_4 ?_
  replace k := k.2
  refine gx_icmp_ge (tgt := 35) h (by decide) dX5_number_7 (fun c => ?_) (fun c => ?_)
  · replace k := k.1 c
    exact gx_vret h rfl dX5_number_35 (⟨rfl, k⟩)
  · replace k := k.2 c
    refine gx_aload_nq (r := x1) h 1 rfl dX5_number_10 ?_
    refine gcg_X5_26 h rfl e4_1 k.1 dX5_number_11 ?_
    replace k := k.2
    refine gx_iload_n h 2 rfl dX5_number_14 ?_
    obtain ⟨a15_2, e15_2, k⟩ := k
    refine gc_aald18E (r := gc_R σ 702 a4_1) h e15_2 k.1 k.2.1 dX5_number_15 ?_
    replace k := k.2.2
    refine gx_aload_nq (r := some a0) h 0 rfl dX5_number_16 ?_
    refine gx_aload_nq (r := x1) h 1 rfl dX5_number_17 ?_
    refine gcg_X5_26 h rfl e4_1 k.1 dX5_number_18 ?_
    replace k := k.2
    refine gx_iload_n h 2 rfl dX5_number_21 ?_
    refine gc_aald18E (r := gc_R σ 702 a4_1) h e15_2 k.1 k.2.1 dX5_number_22 ?_
    replace k := k.2.2
    obtain ⟨c23, s23, hb23, k⟩ := k
    refine gcc_X5_30 (r := some a0) (a0 := gc_Q σ a15_2 x2.toNatClampNeg) h rfl ⟨Nat.le_refl _, Nat.le_refl _⟩ hb23 rfl k.1 (by simp only [List.map_cons, List.map_nil, List.sum_cons, List.sum_nil, gx_cat]; exact Nat.le_of_ble_eq_true rfl) dX5_number_23 (gx_C.mono k.2 ?_)
    rintro _ σ23 ⟨r23, rfl, k⟩
    refine ⟨r23, rfl, ?_⟩
    obtain ⟨a26_3, e26_3, k⟩ := k
    refine gcp_X5_34 (v := r23) h rfl e26_3 k.1 dX5_number_26 ?_
    generalize hz : gc_sI σ23 809 a26_3 r23 = σ26
    replace k := k.2 σ26 hz.symm
    refine gx_iinc (v := x2 + 1) (L' := [(2, .int (x2 + 1)), (0, va_rf (some a0)), (1, va_rf x1)]) h 2 rfl rfl (Nat.le_of_ble_eq_true rfl) (by generalize x1 = z; cases z <;> rfl) dX5_number_29 ?_
    refine gx_goto (tgt := 2) h (by decide) dX5_number_32 ?_
    exact gx_sub [1, 2, 0] rfl k
/-! X5.which -/
theorem ec_X5_which {θ : gc_T} {P : Int32 → gc_S → Prop} {σ : gc_S} {n c s : Nat} {a0 : Nat} {x1 : Option Nat} (body : ∀ K, gc_K θ K (nX5_which (n + 1) c s) → gc_G θ K (nX5_which (n + 1) c s) (gc_Pi P) 0 [(0, va_rf (some a0)), (1, va_rf x1)] [] σ c s) : gx_C (gc_O θ) (nX5_which (n + 1) c s) [.ref a0, va_rf x1] σ (gc_Pi P) := by
  refine gx_C.intro (gc_z_warm θ) rfl (by cases x1 <;> exact Nat.le_of_ble_eq_true rfl) (fun K h => ?_)
  have k := body K h
  cases x1 <;> exact k
theorem bc_X5_which_0 {θ : gc_T} {K : gx_K} {P : Int32 → gc_S → Prop} {σ : gc_S} {x1 : Option Nat} {a0 n c s bc bs : Nat} (h : gc_K θ K (nX5_which (n + 1) c s)) (k : ∃ a1_1 : Nat, x1 = some a1_1 ∧ gc_isN σ a1_1 ∧ ∃ a4_2 : Nat, gc_R σ 804 a1_1 = some a4_2 ∧ gc_is σ a4_2 12 ∧ gx_C (gc_O θ) (nJ5_size n) (.ref a4_2 :: []) σ (gc_Pi (fun r4 σ4 => gc_isN σ4 a1_1 ∧ ∃ a13_3 : Nat, gc_R σ4 801 a1_1 = some a13_3 ∧ gc_isB θ σ4 a13_3 ∧ gc_isN σ4 a1_1 ∧ ∃ a19_4 : Nat, gc_R σ4 802 a1_1 = some a19_4 ∧ gc_isB θ σ4 a19_4 ∧ ¬ (((3 + (Int32.ofNat (gc_n σ4 a13_3))) + (Int32.ofNat (gc_n σ4 a19_4))) + r4) < 0 ∧ (((3 + (Int32.ofNat (gc_n σ4 a13_3))) + (Int32.ofNat (gc_n σ4 a19_4))) + r4).toNatClampNeg ≤ 100000 ∧ 1 ≤ bc ∧ (((3 + (Int32.ofNat (gc_n σ4 a13_3))) + (Int32.ofNat (gc_n σ4 a19_4))) + r4).toNatClampNeg ≤ bs ∧ ∀ q23, q23 ∉ gc_d σ4 → gc_A θ q23 → ∀ σ23, σ23 = gc_new σ4 q23 14 (((3 + (Int32.ofNat (gc_n σ4 a13_3))) + (Int32.ofNat (gc_n σ4 a19_4))) + r4).toNatClampNeg → gc_isN σ23 a1_1 ∧ vC_kind θ n σ23 a1_1 [] (gc_Pi (fun r29 σ29 => gc_is σ29 q23 14 ∧ vp_in 0 (gc_n σ29 q23) ∧ ∀ σ32, σ32 = gc_sE σ29 q23 (0 : Int32).toNatClampNeg r29 → gc_isN σ32 a1_1 ∧ ∃ a39_5 : Nat, gc_R σ32 801 a1_1 = some a39_5 ∧ gc_isB θ σ32 a39_5 ∧ gc_is σ32 q23 14 ∧ vp_in 1 (gc_n σ32 q23) ∧ ∀ σ40, σ40 = gc_sE σ32 q23 (1 : Int32).toNatClampNeg (Int32.ofNat (gc_n σ32 a39_5)) → gc_isN σ40 a1_1 ∧ ∃ a47_6 : Nat, gc_R σ40 802 a1_1 = some a47_6 ∧ gc_isB θ σ40 a47_6 ∧ gc_is σ40 q23 14 ∧ vp_in 2 (gc_n σ40 q23) ∧ ∀ σ48, σ48 = gc_sE σ40 q23 (2 : Int32).toNatClampNeg (Int32.ofNat (gc_n σ40 a47_6)) → gc_G θ K (nX5_which (n + 1) c s) (gc_Pi P) 55 [(0, va_rf (some a0)), (1, va_rf x1), (2, .int r4), (3, va_rf (some q23)), (4, .int 3), (5, .int 0)] [] σ48 (bc - 1) (bs - (((3 + (Int32.ofNat (gc_n σ4 a13_3))) + (Int32.ofNat (gc_n σ4 a19_4))) + r4).toNatClampNeg)))))) : gc_G θ K (nX5_which (n + 1) c s) (gc_Pi P) 0 [(0, va_rf (some a0)), (1, va_rf x1)] [] σ bc bs := by
  refine gx_aload_nq (r := x1) h 1 rfl dX5_which_0 ?_
  obtain ⟨a1_1, e1_1, k⟩ := k
  refine gcg_X5_38 h rfl e1_1 k.1 dX5_which_1 ?_
  replace k := k.2
  obtain ⟨a4_2, e4_2, k⟩ := k
  refine gcc_X5_42 (r := gc_R σ 804 a1_1)  h rfl ⟨Nat.le_refl _, Nat.le_refl _⟩ e4_2 k.1 (Nat.le_of_ble_eq_true rfl) dX5_which_4 (gx_C.mono k.2 ?_)
  rintro _ σ4 ⟨r4, rfl, k⟩
  refine ⟨r4, rfl, ?_⟩
  refine gx_istore_n (L' := [(2, .int r4), (0, va_rf (some a0)), (1, va_rf x1)]) h (Nat.le_of_ble_eq_true rfl) (by generalize x1 = z; cases z <;> rfl) dX5_which_7 ?_
  refine gx_iconst (v := 3) h dX5_which_8 (by decide) ?_
  refine gx_aload_nq (r := x1) h 2 rfl dX5_which_9 ?_
  refine gcg_X5_47 h rfl e1_1 k.1 dX5_which_10 ?_
  replace k := k.2
  obtain ⟨a13_3, e13_3, k⟩ := k
  refine gc_alen15E (r := gc_R σ4 801 a1_1) h e13_3 k.1 dX5_which_13 ?_
  replace k := k.2
  refine gx_iadd h dX5_which_14 ?_
  refine gx_aload_nq (r := x1) h 2 rfl dX5_which_15 ?_
  refine gcg_X5_51 h rfl e1_1 k.1 dX5_which_16 ?_
  replace k := k.2
  obtain ⟨a19_4, e19_4, k⟩ := k
  refine gc_alen15E (r := gc_R σ4 802 a1_1) h e19_4 k.1 dX5_which_19 ?_
  replace k := k.2
  refine gx_iadd h dX5_which_20 ?_
  refine gx_iload_n h 0 rfl dX5_which_21 ?_
  refine gx_iadd h dX5_which_22 ?_
  refine gc_newa (atype := .int) (k := 14) (t := 0) (ty := .int) (by decide) (by decide) rfl rfl rfl (by decide) q212 h k.1 k.2.1 dX5_which_23 k.2.2.1 k.2.2.2.1 (fun q23 hq hA => ?_)
  generalize hz : gc_new σ4 q23 14 (((3 + (Int32.ofNat (gc_n σ4 a13_3))) + (Int32.ofNat (gc_n σ4 a19_4))) + r4).toNatClampNeg = σ23
  replace k := k.2.2.2.2 q23 hq hA σ23 hz.symm
  refine gx_astore_nq (r := some q23) (L' := [(3, va_rf (some q23)), (2, .int r4), (0, va_rf (some a0)), (1, va_rf x1)]) h (Nat.le_of_ble_eq_true rfl) rfl dX5_which_25 ?_
  refine gx_aload_nq (r := some q23) h 0 rfl dX5_which_26 ?_
  refine gx_iconst (v := 0) h dX5_which_27 (by decide) ?_
  refine gx_aload_nq (r := x1) h 3 rfl dX5_which_28 ?_
  refine gcc_X5_54 (r := x1)  h rfl ⟨Nat.le_refl _, Nat.le_refl _⟩ e1_1 k.1 (Nat.le_of_ble_eq_true rfl) dX5_which_29 (vC_kind_mono k.2 ?_)
  rintro _ σ29 ⟨r29, rfl, k⟩
  refine ⟨r29, rfl, ?_⟩
  refine gc_iastE (r := some q23) h rfl k.1 k.2.1 dX5_which_32 ?_
  generalize hz : gc_sE σ29 q23 (0 : Int32).toNatClampNeg r29 = σ32
  replace k := k.2.2 σ32 hz.symm
  refine gx_aload_nq (r := some q23) h 0 rfl dX5_which_33 ?_
  refine gx_iconst (v := 1) h dX5_which_34 (by decide) ?_
  refine gx_aload_nq (r := x1) h 3 rfl dX5_which_35 ?_
  refine gcg_X5_47 h rfl e1_1 k.1 dX5_which_36 ?_
  replace k := k.2
  obtain ⟨a39_5, e39_5, k⟩ := k
  refine gc_alen15E (r := gc_R σ32 801 a1_1) h e39_5 k.1 dX5_which_39 ?_
  replace k := k.2
  refine gc_iastE (r := some q23) h rfl k.1 k.2.1 dX5_which_40 ?_
  generalize hz : gc_sE σ32 q23 (1 : Int32).toNatClampNeg (Int32.ofNat (gc_n σ32 a39_5)) = σ40
  replace k := k.2.2 σ40 hz.symm
  refine gx_aload_nq (r := some q23) h 0 rfl dX5_which_41 ?_
  refine gx_iconst (v := 2) h dX5_which_42 (by decide) ?_
  refine gx_aload_nq (r := x1) h 3 rfl dX5_which_43 ?_
  refine gcg_X5_51 h rfl e1_1 k.1 dX5_which_44 ?_
  replace k := k.2
  obtain ⟨a47_6, e47_6, k⟩ := k
  refine gc_alen15E (r := gc_R σ40 802 a1_1) h e47_6 k.1 dX5_which_47 ?_
  replace k := k.2
  refine gc_iastE (r := some q23) h rfl k.1 k.2.1 dX5_which_48 ?_
  generalize hz : gc_sE σ40 q23 (2 : Int32).toNatClampNeg (Int32.ofNat (gc_n σ40 a47_6)) = σ48
  replace k := k.2.2 σ48 hz.symm
  refine gx_iconst (v := 3) h dX5_which_49 (by decide) ?_
  refine gx_istore (L' := [(4, .int 3), (3, va_rf (some q23)), (2, .int r4), (0, va_rf (some a0)), (1, va_rf x1)]) h (Nat.le_of_ble_eq_true rfl) rfl dX5_which_50 ?_
  refine gx_iconst (v := 0) h dX5_which_52 (by decide) ?_
  refine gx_istore (L' := [(5, .int 0), (4, .int 3), (3, va_rf (some q23)), (2, .int r4), (0, va_rf (some a0)), (1, va_rf x1)]) h (Nat.le_of_ble_eq_true rfl) rfl dX5_which_53 ?_
  exact gx_sub [4, 5, 3, 2, 1, 0] rfl k
theorem bc_X5_which_55 {θ : gc_T} {K : gx_K} {P : Int32 → gc_S → Prop} {σ : gc_S} {x2 x4 x5 : Int32} {x1 x3 : Option Nat} {a0 n c s bc bs : Nat} (h : gc_K θ K (nX5_which (n + 1) c s)) (k : ∃ a58_1 : Nat, x1 = some a58_1 ∧ gc_isN σ a58_1 ∧ ∃ a61_2 : Nat, gc_R σ 801 a58_1 = some a61_2 ∧ gc_isB θ σ a61_2 ∧ (((Int32.ofNat (gc_n σ a61_2)) ≤ x5 → gc_isN σ a58_1 ∧ gc_isB θ σ a61_2 ∧ ∀ x4_93 : Int32, x4_93 = x4 + (Int32.ofNat (gc_n σ a61_2)) → gc_G θ K (nX5_which (n + 1) c s) (gc_Pi P) 98 [(0, va_rf (some a0)), (1, va_rf x1), (2, .int x2), (3, va_rf x3), (4, .int x4_93), (5, .int 0)] [] σ bc bs) ∧ (¬ (Int32.ofNat (gc_n σ a61_2)) ≤ x5 → gc_isN σ a58_1 ∧ gc_is σ a61_2 15 ∧ vp_in x5 (gc_n σ a61_2) ∧ ∃ a78_3 : Nat, x3 = some a78_3 ∧ gc_is σ a78_3 14 ∧ vp_in (x4 + x5) (gc_n σ a78_3) ∧ ∀ σ78, σ78 = gc_sE σ a78_3 (x4 + x5).toNatClampNeg (gc_E σ a61_2 x5.toNatClampNeg) → gc_G θ K (nX5_which (n + 1) c s) (gc_Pi P) 55 [(0, va_rf (some a0)), (1, va_rf x1), (2, .int x2), (3, va_rf x3), (4, .int x4), (5, .int (x5 + 1))] [] σ78 bc bs))) : gc_G θ K (nX5_which (n + 1) c s) (gc_Pi P) 55 [(0, va_rf (some a0)), (1, va_rf x1), (2, .int x2), (3, va_rf x3), (4, .int x4), (5, .int x5)] [] σ bc bs := by
  refine gx_iload h 5 rfl dX5_which_55 ?_
  refine gx_aload_nq (r := x1) h 1 rfl dX5_which_57 ?_
  obtain ⟨a58_1, e58_1, k⟩ := k
  refine gcg_X5_47 h rfl e58_1 k.1 dX5_which_58 ?_
  replace k := k.2
  obtain ⟨a61_2, e61_2, k⟩ := k
  refine gc_alen15E (r := gc_R σ 801 a58_1) h e61_2 k.1 dX5_which_61 ?_
  replace k := k.2
  refine gx_icmp_ge (tgt := 85) h (by decide) dX5_which_62 (fun c => ?_) (fun c => ?_)
  · replace k := k.1 c
    refine gx_iload h 4 rfl dX5_which_85 ?_
    refine gx_aload_nq (r := x1) h 1 rfl dX5_which_87 ?_
    refine gcg_X5_47 h rfl e58_1 k.1 dX5_which_88 ?_
    replace k := k.2
    refine gc_alen15E (r := gc_R σ 801 a58_1) h e61_2 k.1 dX5_which_91 ?_
    replace k := k.2
    refine gx_iadd h dX5_which_92 ?_
    generalize hz : (x4 + (Int32.ofNat (gc_n σ a61_2))) = x4_93
    replace k := k x4_93 hz.symm
    refine gx_istore (L' := [(4, .int x4_93), (0, va_rf (some a0)), (1, va_rf x1), (2, .int x2), (3, va_rf x3), (5, .int x5)]) h (Nat.le_of_ble_eq_true rfl) (by generalize x3 = z; cases z <;> rfl) dX5_which_93 ?_
    refine gx_iconst (v := 0) h dX5_which_95 (by decide) ?_
    refine gx_istore (L' := [(5, .int 0), (4, .int x4_93), (0, va_rf (some a0)), (1, va_rf x1), (2, .int x2), (3, va_rf x3)]) h (Nat.le_of_ble_eq_true rfl) rfl dX5_which_96 ?_
    exact gx_sub [2, 3, 4, 5, 1, 0] rfl k
  · replace k := k.2 c
    refine gx_aload_nq (r := x3) h 3 rfl dX5_which_65 ?_
    refine gx_iload h 4 rfl dX5_which_66 ?_
    refine gx_iload h 5 rfl dX5_which_68 ?_
    refine gx_iadd h dX5_which_70 ?_
    refine gx_aload_nq (r := x1) h 1 rfl dX5_which_71 ?_
    refine gcg_X5_47 h rfl e58_1 k.1 dX5_which_72 ?_
    replace k := k.2
    refine gx_iload h 5 rfl dX5_which_75 ?_
    refine gc_baldE (r := gc_R σ 801 a58_1) h e61_2 k.1 k.2.1 dX5_which_77 ?_
    replace k := k.2.2
    obtain ⟨a78_3, e78_3, k⟩ := k
    refine gc_iastE (r := x3) h e78_3 k.1 k.2.1 dX5_which_78 ?_
    generalize hz : gc_sE σ a78_3 (x4 + x5).toNatClampNeg (gc_E σ a61_2 x5.toNatClampNeg) = σ78
    replace k := k.2.2 σ78 hz.symm
    refine gx_iinc (v := x5 + 1) (L' := [(5, .int (x5 + 1)), (0, va_rf (some a0)), (1, va_rf x1), (2, .int x2), (3, va_rf x3), (4, .int x4)]) h 5 rfl rfl (Nat.le_of_ble_eq_true rfl) rfl dX5_which_79 ?_
    refine gx_goto (tgt := 55) h (by decide) dX5_which_82 ?_
    exact gx_sub [1, 2, 3, 4, 5, 0] rfl k
theorem bc_X5_which_98 {θ : gc_T} {K : gx_K} {P : Int32 → gc_S → Prop} {σ : gc_S} {x2 x4 x5 : Int32} {x1 x3 : Option Nat} {a0 n c s bc bs : Nat} (h : gc_K θ K (nX5_which (n + 1) c s)) (k : ∃ a101_1 : Nat, x1 = some a101_1 ∧ gc_isN σ a101_1 ∧ ∃ a104_2 : Nat, gc_R σ 802 a101_1 = some a104_2 ∧ gc_isB θ σ a104_2 ∧ (((Int32.ofNat (gc_n σ a104_2)) ≤ x5 → gc_isN σ a101_1 ∧ gc_isB θ σ a104_2 ∧ ∀ x4_136 : Int32, x4_136 = x4 + (Int32.ofNat (gc_n σ a104_2)) → gc_G θ K (nX5_which (n + 1) c s) (gc_Pi P) 141 [(0, va_rf (some a0)), (1, va_rf x1), (2, .int x2), (3, va_rf x3), (4, .int x4_136), (5, .int 0)] [] σ bc bs) ∧ (¬ (Int32.ofNat (gc_n σ a104_2)) ≤ x5 → gc_isN σ a101_1 ∧ gc_is σ a104_2 15 ∧ vp_in x5 (gc_n σ a104_2) ∧ ∃ a121_3 : Nat, x3 = some a121_3 ∧ gc_is σ a121_3 14 ∧ vp_in (x4 + x5) (gc_n σ a121_3) ∧ ∀ σ121, σ121 = gc_sE σ a121_3 (x4 + x5).toNatClampNeg (gc_E σ a104_2 x5.toNatClampNeg) → gc_G θ K (nX5_which (n + 1) c s) (gc_Pi P) 98 [(0, va_rf (some a0)), (1, va_rf x1), (2, .int x2), (3, va_rf x3), (4, .int x4), (5, .int (x5 + 1))] [] σ121 bc bs))) : gc_G θ K (nX5_which (n + 1) c s) (gc_Pi P) 98 [(0, va_rf (some a0)), (1, va_rf x1), (2, .int x2), (3, va_rf x3), (4, .int x4), (5, .int x5)] [] σ bc bs := by
  refine gx_iload h 5 rfl dX5_which_98 ?_
  refine gx_aload_nq (r := x1) h 1 rfl dX5_which_100 ?_
  obtain ⟨a101_1, e101_1, k⟩ := k
  refine gcg_X5_51 h rfl e101_1 k.1 dX5_which_101 ?_
  replace k := k.2
  obtain ⟨a104_2, e104_2, k⟩ := k
  refine gc_alen15E (r := gc_R σ 802 a101_1) h e104_2 k.1 dX5_which_104 ?_
  replace k := k.2
  refine gx_icmp_ge (tgt := 128) h (by decide) dX5_which_105 (fun c => ?_) (fun c => ?_)
  · replace k := k.1 c
    refine gx_iload h 4 rfl dX5_which_128 ?_
    refine gx_aload_nq (r := x1) h 1 rfl dX5_which_130 ?_
    refine gcg_X5_51 h rfl e101_1 k.1 dX5_which_131 ?_
    replace k := k.2
    refine gc_alen15E (r := gc_R σ 802 a101_1) h e104_2 k.1 dX5_which_134 ?_
    replace k := k.2
    refine gx_iadd h dX5_which_135 ?_
    generalize hz : (x4 + (Int32.ofNat (gc_n σ a104_2))) = x4_136
    replace k := k x4_136 hz.symm
    refine gx_istore (L' := [(4, .int x4_136), (0, va_rf (some a0)), (1, va_rf x1), (2, .int x2), (3, va_rf x3), (5, .int x5)]) h (Nat.le_of_ble_eq_true rfl) (by generalize x3 = z; cases z <;> rfl) dX5_which_136 ?_
    refine gx_iconst (v := 0) h dX5_which_138 (by decide) ?_
    refine gx_istore (L' := [(5, .int 0), (4, .int x4_136), (0, va_rf (some a0)), (1, va_rf x1), (2, .int x2), (3, va_rf x3)]) h (Nat.le_of_ble_eq_true rfl) rfl dX5_which_139 ?_
    exact gx_sub [2, 3, 4, 5, 1, 0] rfl k
  · replace k := k.2 c
    refine gx_aload_nq (r := x3) h 3 rfl dX5_which_108 ?_
    refine gx_iload h 4 rfl dX5_which_109 ?_
    refine gx_iload h 5 rfl dX5_which_111 ?_
    refine gx_iadd h dX5_which_113 ?_
    refine gx_aload_nq (r := x1) h 1 rfl dX5_which_114 ?_
    refine gcg_X5_51 h rfl e101_1 k.1 dX5_which_115 ?_
    replace k := k.2
    refine gx_iload h 5 rfl dX5_which_118 ?_
    refine gc_baldE (r := gc_R σ 802 a101_1) h e104_2 k.1 k.2.1 dX5_which_120 ?_
    replace k := k.2.2
    obtain ⟨a121_3, e121_3, k⟩ := k
    refine gc_iastE (r := x3) h e121_3 k.1 k.2.1 dX5_which_121 ?_
    generalize hz : gc_sE σ a121_3 (x4 + x5).toNatClampNeg (gc_E σ a104_2 x5.toNatClampNeg) = σ121
    replace k := k.2.2 σ121 hz.symm
    refine gx_iinc (v := x5 + 1) (L' := [(5, .int (x5 + 1)), (0, va_rf (some a0)), (1, va_rf x1), (2, .int x2), (3, va_rf x3), (4, .int x4)]) h 5 rfl rfl (Nat.le_of_ble_eq_true rfl) rfl dX5_which_122 ?_
    refine gx_goto (tgt := 98) h (by decide) dX5_which_125 ?_
    exact gx_sub [1, 2, 3, 4, 5, 0] rfl k
theorem bc_X5_which_141 {θ : gc_T} {K : gx_K} {P : Int32 → gc_S → Prop} {σ : gc_S} {x2 x4 x5 : Int32} {x1 x3 : Option Nat} {a0 n c s bc bs : Nat} (h : gc_K θ K (nX5_which (n + 1) c s)) (k : ((x2 ≤ x5 → ∃ a176_1 : Nat, x1 = some a176_1 ∧ gc_isN σ a176_1 ∧ vC_isOrdered θ n σ a176_1 [] (gc_Pi (fun r176 σ176 => ((r176 = 0 → gx_C (gc_O θ) (nX5_sort n) [va_rf x3, .int x4] σ176 (gc_Pv (fun σ185 => gc_G θ K (nX5_which (n + 1) c s) (gc_Pi P) 188 [(0, va_rf (some a0)), (3, va_rf x3)] [] σ185 bc bs))) ∧ (¬ r176 = 0 → gc_G θ K (nX5_which (n + 1) c s) (gc_Pi P) 188 [(0, va_rf (some a0)), (3, va_rf x3)] [] σ176 bc bs))))) ∧ (¬ x2 ≤ x5 → ∃ a154_2 : Nat, x1 = some a154_2 ∧ gc_isN σ a154_2 ∧ ∃ a159_3 : Nat, gc_R σ 804 a154_2 = some a159_3 ∧ gc_is σ a159_3 12 ∧ gx_C (gc_O θ) (nJ5_get n) (.ref a159_3 :: [.int x5]) σ (gc_Pr (fun r159 σ159 => (∀ a, r159 = some a → gc_isN σ159 a) ∧ ∃ a165_4 : Nat, r159 = some a165_4 ∧ gc_isN σ159 a165_4 ∧ ∃ a168_5 : Nat, x3 = some a168_5 ∧ gc_is σ159 a168_5 14 ∧ vp_in (x4 + x5) (gc_n σ159 a168_5) ∧ ∀ σ168, σ168 = gc_sE σ159 a168_5 (x4 + x5).toNatClampNeg (gc_I σ159 809 a165_4) → gc_G θ K (nX5_which (n + 1) c s) (gc_Pi P) 141 [(0, va_rf (some a0)), (1, va_rf x1), (2, .int x2), (3, va_rf x3), (4, .int x4), (5, .int (x5 + 1))] [] σ168 bc bs))))) : gc_G θ K (nX5_which (n + 1) c s) (gc_Pi P) 141 [(0, va_rf (some a0)), (1, va_rf x1), (2, .int x2), (3, va_rf x3), (4, .int x4), (5, .int x5)] [] σ bc bs := by
  refine gx_iload h 5 rfl dX5_which_141 ?_
  refine gx_iload_n h 2 rfl dX5_which_143 ?_
  refine gx_icmp_ge (tgt := 175) h (by decide) dX5_which_144 (fun c => ?_) (fun c => ?_)
  · replace k := k.1 c
    refine gx_aload_nq (r := x1) h 1 rfl dX5_which_175 ?_
    obtain ⟨a176_1, e176_1, k⟩ := k
    refine gcc_X5_61 (r := x1)  h rfl ⟨Nat.le_refl _, Nat.le_refl _⟩ e176_1 k.1 (Nat.le_of_ble_eq_true rfl) dX5_which_176 (vC_isOrdered_mono k.2 ?_)
    rintro _ σ176 ⟨r176, rfl, k⟩
    refine ⟨r176, rfl, ?_⟩
    refine gx_if_ne (tgt := 188) h (by decide) dX5_which_179 (fun c => ?_) (fun c => ?_)
    · replace k := k.2 c
      exact gx_sub [0, 3] rfl k
    · replace k := k.1 c
      refine gx_aload_nq (r := x3) h 3 rfl dX5_which_182 ?_
      refine gx_iload h 4 rfl dX5_which_183 ?_
      refine gcc_X5_65 (a0 := x3) (a1 := x4) h rfl ⟨Nat.le_refl _, Nat.le_refl _⟩ (Nat.le_of_ble_eq_true rfl) dX5_which_185 (gx_C.mono k ?_)
      rintro _ σ185 ⟨rfl, k⟩
      refine ⟨rfl, ?_⟩
      exact gx_sub [0, 3] rfl k
  · replace k := k.2 c
    refine gx_aload_nq (r := x3) h 3 rfl dX5_which_147 ?_
    refine gx_iload h 4 rfl dX5_which_148 ?_
    refine gx_iload h 5 rfl dX5_which_150 ?_
    refine gx_iadd h dX5_which_152 ?_
    refine gx_aload_nq (r := x1) h 1 rfl dX5_which_153 ?_
    obtain ⟨a154_2, e154_2, k⟩ := k
    refine gcg_X5_38 h rfl e154_2 k.1 dX5_which_154 ?_
    replace k := k.2
    refine gx_iload h 5 rfl dX5_which_157 ?_
    obtain ⟨a159_3, e159_3, k⟩ := k
    refine gcc_X5_57 (r := gc_R σ 804 a154_2) (a0 := x5) h rfl ⟨Nat.le_refl _, Nat.le_refl _⟩ e159_3 k.1 (by simp only [List.map_cons, List.map_nil, List.sum_cons, List.sum_nil, gx_cat]; exact Nat.le_of_ble_eq_true rfl) dX5_which_159 (gx_C.mono k.2 ?_)
    rintro _ σ159 ⟨r159, rfl, k⟩
    refine ⟨r159, rfl, ?_⟩
    refine gc_castN (r := r159) h rfl q1122 q1639 q1638 q1640 q1641 k.1 dX5_which_162 ?_
    replace k := k.2
    obtain ⟨a165_4, e165_4, k⟩ := k
    refine gcg_X5_34 h rfl e165_4 k.1 dX5_which_165 ?_
    replace k := k.2
    obtain ⟨a168_5, e168_5, k⟩ := k
    refine gc_iastE (r := x3) h e168_5 k.1 k.2.1 dX5_which_168 ?_
    generalize hz : gc_sE σ159 a168_5 (x4 + x5).toNatClampNeg (gc_I σ159 809 a165_4) = σ168
    replace k := k.2.2 σ168 hz.symm
    refine gx_iinc (v := x5 + 1) (L' := [(5, .int (x5 + 1)), (0, va_rf (some a0)), (1, va_rf x1), (2, .int x2), (3, va_rf x3), (4, .int x4)]) h 5 rfl rfl (Nat.le_of_ble_eq_true rfl) rfl dX5_which_169 ?_
    refine gx_goto (tgt := 141) h (by decide) dX5_which_172 ?_
    exact gx_sub [1, 2, 3, 4, 5, 0] rfl k
theorem bc_X5_which_188 {θ : gc_T} {K : gx_K} {P : Int32 → gc_S → Prop} {σ : gc_S} {x3 : Option Nat} {a0 n c s bc bs : Nat} (h : gc_K θ K (nX5_which (n + 1) c s)) (k : gc_G θ K (nX5_which (n + 1) c s) (gc_Pi P) 191 [(0, va_rf (some a0)), (3, va_rf x3), (5, .int 0)] [] σ bc bs) : gc_G θ K (nX5_which (n + 1) c s) (gc_Pi P) 188 [(0, va_rf (some a0)), (3, va_rf x3)] [] σ bc bs := by
  refine gx_iconst (v := 0) h dX5_which_188 (by decide) ?_
  refine gx_istore (L' := [(5, .int 0), (0, va_rf (some a0)), (3, va_rf x3)]) h (Nat.le_of_ble_eq_true rfl) rfl dX5_which_189 ?_
  exact gx_sub [1, 2, 0] rfl k
theorem bc_X5_which_191 {θ : gc_T} {K : gx_K} {P : Int32 → gc_S → Prop} {σ : gc_S} {x5 : Int32} {x3 : Option Nat} {a0 n c s bc bs : Nat} (h : gc_K θ K (nX5_which (n + 1) c s)) (k : gc_is σ a0 5 ∧ (((gc_I σ 501 a0) ≤ x5 → gc_is σ a0 5 ∧ gc_is σ a0 5 ∧ ∃ a232_1 : Nat, gc_R σ 500 a0 = some a232_1 ∧ ∃ a232_2 : Nat, x3 = some a232_2 ∧ gc_is σ a232_1 17 ∧ gc_is σ a232_2 14 ∧ vp_in (gc_I σ 501 a0) (gc_n σ a232_1) ∧ ∀ σ232, σ232 = gc_sQ σ a232_1 (gc_I σ 501 a0).toNatClampNeg (some a232_2) → gc_is σ232 a0 5 ∧ gc_is σ232 a0 5 ∧ ∀ σ240, σ240 = gc_sI σ232 501 a0 ((gc_I σ232 501 a0) + 1) → gc_is σ240 a0 5 ∧ P ((gc_I σ240 501 a0) - 1) σ240) ∧ (¬ (gc_I σ 501 a0) ≤ x5 → gc_is σ a0 5 ∧ ∃ a206_3 : Nat, gc_R σ 500 a0 = some a206_3 ∧ gc_is σ a206_3 17 ∧ vp_in x5 (gc_n σ a206_3) ∧ gx_C (gc_O θ) (nX5_isSame n) [va_rf (gc_Q σ a206_3 x5.toNatClampNeg), va_rf x3] σ (gc_Pi (fun r208 σ208 => ((r208 = 0 → gc_G θ K (nX5_which (n + 1) c s) (gc_Pi P) 191 [(0, va_rf (some a0)), (3, va_rf x3), (5, .int (x5 + 1))] [] σ208 bc bs) ∧ (¬ r208 = 0 → P x5 σ208))))))) : gc_G θ K (nX5_which (n + 1) c s) (gc_Pi P) 191 [(0, va_rf (some a0)), (3, va_rf x3), (5, .int x5)] [] σ bc bs := by
  refine gx_iload h 2 rfl dX5_which_191 ?_
  refine gx_aload_nq (r := some a0) h 0 rfl dX5_which_193 ?_
  refine gcg_X5_17 h rfl rfl k.1 dX5_which_194 ?_
  replace k := k.2
  refine gx_icmp_ge (tgt := 223) h (by decide) dX5_which_197 (fun c => ?_) (fun c => ?_)
  · replace k := k.1 c
    refine gx_aload_nq (r := some a0) h 0 rfl dX5_which_223 ?_
    refine gcg_X5_11 h rfl rfl k.1 dX5_which_224 ?_
    replace k := k.2
    refine gx_aload_nq (r := some a0) h 0 rfl dX5_which_227 ?_
    refine gcg_X5_17 h rfl rfl k.1 dX5_which_228 ?_
    replace k := k.2
    refine gx_aload_nq (r := x3) h 1 rfl dX5_which_231 ?_
    obtain ⟨a232_1, e232_1, k⟩ := k
    obtain ⟨a232_2, e232_2, k⟩ := k
    refine gc_aast17E (r := gc_R σ 500 a0) (w := x3) h e232_1 e232_2 q236 k.1 k.2.1 k.2.2.1 dX5_which_232 ?_
    generalize hz : gc_sQ σ a232_1 (gc_I σ 501 a0).toNatClampNeg (some a232_2) = σ232
    replace k := k.2.2.2 σ232 hz.symm
    refine gx_aload_nq (r := some a0) h 0 rfl dX5_which_233 ?_
    refine gx_dup h rfl dX5_which_234 ?_
    refine gcg_X5_17 h rfl rfl k.1 dX5_which_235 ?_
    replace k := k.2
    refine gx_iconst (v := 1) h dX5_which_238 (by decide) ?_
    refine gx_iadd h dX5_which_239 ?_
    refine gcp_X5_17 (v := (gc_I σ232 501 a0) + 1) h rfl rfl k.1 dX5_which_240 ?_
    generalize hz : gc_sI σ232 501 a0 ((gc_I σ232 501 a0) + 1) = σ240
    replace k := k.2 σ240 hz.symm
    refine gx_aload_nq (r := some a0) h 0 rfl dX5_which_243 ?_
    refine gcg_X5_17 h rfl rfl k.1 dX5_which_244 ?_
    replace k := k.2
    refine gx_iconst (v := 1) h dX5_which_247 (by decide) ?_
    refine gx_isub h dX5_which_248 ?_
    exact gx_iret h rfl dX5_which_249 (⟨_, rfl, k⟩)
  · replace k := k.2 c
    refine gx_aload_nq (r := some a0) h 0 rfl dX5_which_200 ?_
    refine gcg_X5_11 h rfl rfl k.1 dX5_which_201 ?_
    replace k := k.2
    refine gx_iload h 2 rfl dX5_which_204 ?_
    obtain ⟨a206_3, e206_3, k⟩ := k
    refine gc_aald17E (r := gc_R σ 500 a0) h e206_3 k.1 k.2.1 dX5_which_206 ?_
    replace k := k.2.2
    refine gx_aload_nq (r := x3) h 1 rfl dX5_which_207 ?_
    refine gcc_X5_69 (a0 := gc_Q σ a206_3 x5.toNatClampNeg) (a1 := x3) h rfl ⟨Nat.le_refl _, Nat.le_refl _⟩ (Nat.le_of_ble_eq_true rfl) dX5_which_208 (gx_C.mono k ?_)
    rintro _ σ208 ⟨r208, rfl, k⟩
    refine ⟨r208, rfl, ?_⟩
    refine gx_if_eq (tgt := 217) h (by decide) dX5_which_211 (fun c => ?_) (fun c => ?_)
    · replace k := k.1 c
      refine gx_iinc (v := x5 + 1) (L' := [(5, .int (x5 + 1)), (0, va_rf (some a0)), (3, va_rf x3)]) h 2 rfl rfl (Nat.le_of_ble_eq_true rfl) rfl dX5_which_217 ?_
      refine gx_goto (tgt := 191) h (by decide) dX5_which_220 ?_
      exact gx_sub [1, 2, 0] rfl k
    · replace k := k.2 c
      refine gx_iload h 2 rfl dX5_which_214 ?_
      exact gx_iret h rfl dX5_which_216 (⟨_, rfl, k⟩)
