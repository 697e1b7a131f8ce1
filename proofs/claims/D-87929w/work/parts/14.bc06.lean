set_option maxRecDepth 100000
/-! X6.tellAll -/
theorem ec_X6_tellAll {θ : gc_T} {P : gc_S → Prop} {σ : gc_S} {n c s : Nat} {a0 : Nat} (body : ∀ K, gc_K θ K (nX6_tellAll (n + 1) c s) → gc_G θ K (nX6_tellAll (n + 1) c s) (gc_Pv P) 0 [(0, va_rf (some a0))] [] σ c s) : gx_C (gc_O θ) (nX6_tellAll (n + 1) c s) [.ref a0] σ (gc_Pv P) :=
  gx_C.intro (gc_z_warm θ) rfl (Nat.le_of_ble_eq_true rfl) body
theorem bc_X6_tellAll_0 {θ : gc_T} {K : gx_K} {P : gc_S → Prop} {σ : gc_S} {a0 n c s bc bs : Nat} (h : gc_K θ K (nX6_tellAll (n + 1) c s)) (k : gc_is σ a0 6 ∧ ∃ a4_1 : Nat, gc_R σ 600 a0 = some a4_1 ∧ gc_is σ a4_1 12 ∧ gx_C (gc_O θ) (nJ5_clear n) (.ref a4_1 :: []) σ (gc_Pv (fun σ4 => gc_G θ K (nX6_tellAll (n + 1) c s) (gc_Pv P) 9 [(0, va_rf (some a0)), (1, .int 0)] [] σ4 bc bs))) : gc_G θ K (nX6_tellAll (n + 1) c s) (gc_Pv P) 0 [(0, va_rf (some a0))] [] σ bc bs := by
  refine gx_aload_nq (r := some a0) h 0 rfl dX6_tellAll_0 ?_
  refine gcg_X6_12 h rfl rfl k.1 dX6_tellAll_1 ?_
  replace k := k.2
  obtain ⟨a4_1, e4_1, k⟩ := k
  refine gcc_X6_99 (r := gc_R σ 600 a0)  h rfl ⟨Nat.le_refl _, Nat.le_refl _⟩ e4_1 k.1 (Nat.le_of_ble_eq_true rfl) dX6_tellAll_4 (gx_C.mono k.2 ?_)
  rintro _ σ4 ⟨rfl, k⟩
  refine ⟨rfl, ?_⟩
  refine gx_iconst (v := 0) h dX6_tellAll_7 (by decide) ?_
  refine gx_istore_n (L' := [(1, .int 0), (0, va_rf (some a0))]) h (Nat.le_of_ble_eq_true rfl) rfl dX6_tellAll_8 ?_
  exact gx_sub [1, 0] rfl k
theorem bc_X6_tellAll_9 {θ : gc_T} {K : gx_K} {P : gc_S → Prop} {σ : gc_S} {x1 : Int32} {a0 n c s bc bs : Nat} (h : gc_K θ K (nX6_tellAll (n + 1) c s)) (k : gc_is σ a0 6 ∧ ∃ a14_1 : Nat, gc_R σ 605 a0 = some a14_1 ∧ gc_is σ a14_1 7 ∧ (((gc_I σ 703 a14_1) ≤ x1 → gc_G θ K (nX6_tellAll (n + 1) c s) (gc_Pv P) 105 [(0, va_rf (some a0)), (1, .int 0)] [] σ bc bs) ∧ (¬ (gc_I σ 703 a14_1) ≤ x1 → gc_is σ a0 6 ∧ gc_is σ a14_1 7 ∧ ∃ a28_2 : Nat, gc_R σ 701 a14_1 = some a28_2 ∧ gc_is σ a28_2 18 ∧ vp_in x1 (gc_n σ a28_2) ∧ ∃ a29_3 : Nat, gc_Q σ a28_2 x1.toNatClampNeg = some a29_3 ∧ gc_isN σ a29_3 ∧ gc_is σ a0 6 ∧ ∃ a38_4 : Nat, gc_R σ 606 a0 = some a38_4 ∧ gc_is σ a38_4 7 ∧ gx_C (gc_O θ) (nX8_find n) (.ref a38_4 :: [.int (gc_I σ 800 a29_3)]) σ (gc_Pr (fun r38 σ38 => ((r38 = none → gc_G θ K (nX6_tellAll (n + 1) c s) (gc_Pv P) 97 [(0, va_rf (some a0)), (1, .int x1)] [] σ38 bc bs) ∧ (¬ r38 = none → gc_is σ38 a0 6 ∧ ∃ a51_5 : Nat, gc_R σ38 600 a0 = some a51_5 ∧ gc_is σ38 a51_5 12 ∧ gx_C (gc_O θ) (nJ5_size n) (.ref a51_5 :: []) σ38 (gc_Pi (fun r51 σ51 => gc_G θ K (nX6_tellAll (n + 1) c s) (gc_Pv P) 55 [(0, va_rf (some a0)), (1, .int x1), (2, .int (gc_I σ 800 a29_3)), (3, .int r51)] [] σ51 bc bs))))))))) : gc_G θ K (nX6_tellAll (n + 1) c s) (gc_Pv P) 9 [(0, va_rf (some a0)), (1, .int x1)] [] σ bc bs := by
  refine gx_iload_n h 1 rfl dX6_tellAll_9 ?_
  refine gx_aload_nq (r := some a0) h 0 rfl dX6_tellAll_10 ?_
  refine gcg_X6_87 h rfl rfl k.1 dX6_tellAll_11 ?_
  replace k := k.2
  obtain ⟨a14_1, e14_1, k⟩ := k
  refine gcg_X6_148 h rfl e14_1 k.1 dX6_tellAll_14 ?_
  replace k := k.2
  refine gx_icmp_ge (tgt := 103) h (by decide) dX6_tellAll_17 (fun c => ?_) (fun c => ?_)
  · replace k := k.1 c
    refine gx_iconst (v := 0) h dX6_tellAll_103 (by decide) ?_
    refine gx_istore_n (L' := [(1, .int 0), (0, va_rf (some a0))]) h (Nat.le_of_ble_eq_true rfl) rfl dX6_tellAll_104 ?_
    exact gx_sub [1, 0] rfl k
  · replace k := k.2 c
    refine gx_aload_nq (r := some a0) h 0 rfl dX6_tellAll_20 ?_
    refine gcg_X6_87 h rfl rfl k.1 dX6_tellAll_21 ?_
    replace k := k.2
    refine gcg_X6_150 h rfl e14_1 k.1 dX6_tellAll_24 ?_
    replace k := k.2
    refine gx_iload_n h 1 rfl dX6_tellAll_27 ?_
    obtain ⟨a28_2, e28_2, k⟩ := k
    refine gc_aald18E (r := gc_R σ 701 a14_1) h e28_2 k.1 k.2.1 dX6_tellAll_28 ?_
    replace k := k.2.2
    obtain ⟨a29_3, e29_3, k⟩ := k
    refine gcg_X6_49 h rfl e29_3 k.1 dX6_tellAll_29 ?_
    replace k := k.2
    refine gx_istore_n (L' := [(2, .int (gc_I σ 800 a29_3)), (0, va_rf (some a0)), (1, .int x1)]) h (Nat.le_of_ble_eq_true rfl) rfl dX6_tellAll_32 ?_
    refine gx_aload_nq (r := some a0) h 1 rfl dX6_tellAll_33 ?_
    refine gcg_X6_90 h rfl rfl k.1 dX6_tellAll_34 ?_
    replace k := k.2
    refine gx_iload_n h 0 rfl dX6_tellAll_37 ?_
    obtain ⟨a38_4, e38_4, k⟩ := k
    refine gcc_X6_116 (r := gc_R σ 606 a0) (a0 := gc_I σ 800 a29_3) h rfl ⟨Nat.le_refl _, Nat.le_refl _⟩ e38_4 k.1 (Nat.le_of_ble_eq_true rfl) dX6_tellAll_38 (gx_C.mono k.2 ?_)
    rintro _ σ38 ⟨r38, rfl, k⟩
    refine ⟨r38, rfl, ?_⟩
    refine gx_ifnonnull (r := r38) (tgt := 47) h (by decide) dX6_tellAll_41 (fun c => ?_) (fun c => ?_)
    · replace k := k.2 c
      refine gx_aload_nq (r := some a0) h 1 rfl dX6_tellAll_47 ?_
      refine gcg_X6_12 h rfl rfl k.1 dX6_tellAll_48 ?_
      replace k := k.2
      obtain ⟨a51_5, e51_5, k⟩ := k
      refine gcc_X6_41 (r := gc_R σ38 600 a0)  h rfl ⟨Nat.le_refl _, Nat.le_refl _⟩ e51_5 k.1 (Nat.le_of_ble_eq_true rfl) dX6_tellAll_51 (gx_C.mono k.2 ?_)
      rintro _ σ51 ⟨r51, rfl, k⟩
      refine ⟨r51, rfl, ?_⟩
      refine gx_istore_n (L' := [(3, .int r51), (2, .int (gc_I σ 800 a29_3)), (0, va_rf (some a0)), (1, .int x1)]) h (Nat.le_of_ble_eq_true rfl) rfl dX6_tellAll_54 ?_
      exact gx_sub [2, 3, 1, 0] rfl k
    · replace k := k.1 c
      refine gx_goto (tgt := 97) h (by decide) dX6_tellAll_44 ?_
      exact gx_sub [1, 2] rfl k
theorem bc_X6_tellAll_55 {θ : gc_T} {K : gx_K} {P : gc_S → Prop} {σ : gc_S} {x1 x2 x3 : Int32} {a0 n c s bc bs : Nat} (h : gc_K θ K (nX6_tellAll (n + 1) c s)) (k : ((x3 ≤ 0 → gc_G θ K (nX6_tellAll (n + 1) c s) (gc_Pv P) 85 [(0, va_rf (some a0)), (1, .int x1), (2, .int x2), (3, .int x3)] [] σ bc bs) ∧ (¬ x3 ≤ 0 → gc_is σ a0 6 ∧ ∃ a66_1 : Nat, gc_R σ 600 a0 = some a66_1 ∧ gc_is σ a66_1 12 ∧ gx_C (gc_O θ) (nJ5_get n) (.ref a66_1 :: [.int (x3 - 1)]) σ (gc_Pr (fun r66 σ66 => (∀ a, r66 = some a → gc_isI θ σ66 a) ∧ ∃ a72_2 : Nat, r66 = some a72_2 ∧ gc_isI θ σ66 a72_2 ∧ gx_C (gc_O θ) (nJ16_intValue n) (.ref a72_2 :: []) σ66 (gc_Pi (fun r72 σ72 => ((r72 ≤ x2 → gc_G θ K (nX6_tellAll (n + 1) c s) (gc_Pv P) 85 [(0, va_rf (some a0)), (1, .int x1), (2, .int x2), (3, .int x3)] [] σ72 bc bs) ∧ (¬ r72 ≤ x2 → gc_G θ K (nX6_tellAll (n + 1) c s) (gc_Pv P) 55 [(0, va_rf (some a0)), (1, .int x1), (2, .int x2), (3, .int (x3 + (-1)))] [] σ72 bc bs))))))))) : gc_G θ K (nX6_tellAll (n + 1) c s) (gc_Pv P) 55 [(0, va_rf (some a0)), (1, .int x1), (2, .int x2), (3, .int x3)] [] σ bc bs := by
  refine gx_iload_n h 3 rfl dX6_tellAll_55 ?_
  refine gx_if_le (tgt := 85) h (by decide) dX6_tellAll_56 (fun c => ?_) (fun c => ?_)
  · replace k := k.1 c
    exact k
  · replace k := k.2 c
    refine gx_aload_nq (r := some a0) h 0 rfl dX6_tellAll_59 ?_
    refine gcg_X6_12 h rfl rfl k.1 dX6_tellAll_60 ?_
    replace k := k.2
    refine gx_iload_n h 3 rfl dX6_tellAll_63 ?_
    refine gx_iconst (v := 1) h dX6_tellAll_64 (by decide) ?_
    refine gx_isub h dX6_tellAll_65 ?_
    obtain ⟨a66_1, e66_1, k⟩ := k
    refine gcc_X6_45 (r := gc_R σ 600 a0) (a0 := x3 - 1) h rfl ⟨Nat.le_refl _, Nat.le_refl _⟩ e66_1 k.1 (Nat.le_of_ble_eq_true rfl) dX6_tellAll_66 (gx_C.mono k.2 ?_)
    rintro _ σ66 ⟨r66, rfl, k⟩
    refine ⟨r66, rfl, ?_⟩
    refine gc_castI (r := r66) h rfl q1214 k.1 dX6_tellAll_69 ?_
    replace k := k.2
    obtain ⟨a72_2, e72_2, k⟩ := k
    refine gcc_X6_156 (r := r66)  h rfl ⟨Nat.le_refl _, Nat.le_refl _⟩ e72_2 k.1 (Nat.le_of_ble_eq_true rfl) dX6_tellAll_72 (gx_C.mono k.2 ?_)
    rintro _ σ72 ⟨r72, rfl, k⟩
    refine ⟨r72, rfl, ?_⟩
    refine gx_iload_n h 2 rfl dX6_tellAll_75 ?_
    refine gx_icmp_le (tgt := 85) h (by decide) dX6_tellAll_76 (fun c => ?_) (fun c => ?_)
    · replace k := k.1 c
      exact k
    · replace k := k.2 c
      refine gx_iinc (v := x3 + (-1)) (L' := [(3, .int (x3 + (-1))), (0, va_rf (some a0)), (1, .int x1), (2, .int x2)]) h 3 rfl (congrArg (fun q => x3 + q) (by decide)) (Nat.le_of_ble_eq_true rfl) rfl dX6_tellAll_79 ?_
      refine gx_goto (tgt := 55) h (by decide) dX6_tellAll_82 ?_
      exact gx_sub [1, 2, 3, 0] rfl k
theorem bc_X6_tellAll_85 {θ : gc_T} {K : gx_K} {P : gc_S → Prop} {σ : gc_S} {x1 x2 x3 : Int32} {a0 n c s bc bs : Nat} (h : gc_K θ K (nX6_tellAll (n + 1) c s)) (k : gc_is σ a0 6 ∧ ∃ c91 s91 : Nat, (c91 ≤ bc ∧ s91 ≤ bs) ∧ gx_C (gc_O θ) (nJ16_valueOf n c91 s91) [.int x2] σ (gc_Pr (fun r91 σ91 => ∃ a94_1 : Nat, gc_R σ 600 a0 = some a94_1 ∧ ∃ c94 s94 : Nat, (c94 ≤ (bc - c91) ∧ s94 ≤ (bs - s91)) ∧ gc_is σ91 a94_1 12 ∧ gx_C (gc_O θ) (nJ5_add_3 n c94 s94) (.ref a94_1 :: [.int x3, va_rf r91]) σ91 (gc_Pv (fun σ94 => gc_G θ K (nX6_tellAll (n + 1) c s) (gc_Pv P) 97 [(0, va_rf (some a0)), (1, .int x1)] [] σ94 ((bc - c91) - c94) ((bs - s91) - s94)))))) : gc_G θ K (nX6_tellAll (n + 1) c s) (gc_Pv P) 85 [(0, va_rf (some a0)), (1, .int x1), (2, .int x2), (3, .int x3)] [] σ bc bs := by
  refine gx_aload_nq (r := some a0) h 0 rfl dX6_tellAll_85 ?_
  refine gcg_X6_12 h rfl rfl k.1 dX6_tellAll_86 ?_
  replace k := k.2
  refine gx_iload_n h 3 rfl dX6_tellAll_89 ?_
  refine gx_iload_n h 2 rfl dX6_tellAll_90 ?_
  obtain ⟨c91, s91, hb91, k⟩ := k
  refine gcc_X6_159 (a0 := x2) h rfl ⟨Nat.le_refl _, Nat.le_refl _⟩ hb91 (by simp only [List.map_cons, List.map_nil, List.sum_cons, List.sum_nil, gx_cat]; exact Nat.le_of_ble_eq_true rfl) dX6_tellAll_91 (gx_C.mono k ?_)
  rintro _ σ91 ⟨r91, rfl, k⟩
  refine ⟨r91, rfl, ?_⟩
  obtain ⟨a94_1, e94_1, k⟩ := k
  obtain ⟨c94, s94, hb94, k⟩ := k
  refine gcc_X6_163 (r := gc_R σ 600 a0) (a0 := x3) (a1 := r91) h rfl ⟨Nat.le_refl _, Nat.le_refl _⟩ hb94 e94_1 k.1 (Nat.le_of_ble_eq_true rfl) dX6_tellAll_94 (gx_C.mono k.2 ?_)
  rintro _ σ94 ⟨rfl, k⟩
  refine ⟨rfl, ?_⟩
  exact gx_sub [0, 1] rfl k
theorem bc_X6_tellAll_97 {θ : gc_T} {K : gx_K} {P : gc_S → Prop} {σ : gc_S} {x1 : Int32} {a0 n c s bc bs : Nat} (h : gc_K θ K (nX6_tellAll (n + 1) c s)) (k : gc_G θ K (nX6_tellAll (n + 1) c s) (gc_Pv P) 9 [(0, va_rf (some a0)), (1, .int (x1 + 1))] [] σ bc bs) : gc_G θ K (nX6_tellAll (n + 1) c s) (gc_Pv P) 97 [(0, va_rf (some a0)), (1, .int x1)] [] σ bc bs := by
  refine gx_iinc (v := x1 + 1) (L' := [(1, .int (x1 + 1)), (0, va_rf (some a0))]) h 1 rfl rfl (Nat.le_of_ble_eq_true rfl) rfl dX6_tellAll_97 ?_
  refine gx_goto (tgt := 9) h (by decide) dX6_tellAll_100 ?_
  exact gx_sub [1, 0] rfl k
theorem bc_X6_tellAll_105 {θ : gc_T} {K : gx_K} {P : gc_S → Prop} {σ : gc_S} {x1 : Int32} {a0 n c s bc bs : Nat} (h : gc_K θ K (nX6_tellAll (n + 1) c s)) (k : gc_is σ a0 6 ∧ ∃ a110_1 : Nat, gc_R σ 600 a0 = some a110_1 ∧ gc_is σ a110_1 12 ∧ gx_C (gc_O θ) (nJ5_size n) (.ref a110_1 :: []) σ (gc_Pi (fun r110 σ110 => ((r110 ≤ x1 → P σ110) ∧ (¬ r110 ≤ x1 → gc_is σ110 a0 6 ∧ ∃ a121_2 : Nat, gc_R σ110 600 a0 = some a121_2 ∧ gc_is σ110 a121_2 12 ∧ gx_C (gc_O θ) (nJ5_get n) (.ref a121_2 :: [.int x1]) σ110 (gc_Pr (fun r121 σ121 => (∀ a, r121 = some a → gc_isI θ σ121 a) ∧ ∃ a127_3 : Nat, r121 = some a127_3 ∧ gc_isI θ σ121 a127_3 ∧ gx_C (gc_O θ) (nJ16_intValue n) (.ref a127_3 :: []) σ121 (gc_Pi (fun r127 σ127 => gc_is σ127 a0 6 ∧ ∃ a136_4 : Nat, gc_R σ127 604 a0 = some a136_4 ∧ gc_is σ127 a136_4 7 ∧ gx_C (gc_O θ) (nX8_find n) (.ref a136_4 :: [.int r127]) σ127 (gc_Pr (fun r136 σ136 => gc_is σ136 a0 6 ∧ ∃ a145_5 : Nat, gc_R σ136 605 a0 = some a145_5 ∧ gc_is σ136 a145_5 7 ∧ gx_C (gc_O θ) (nX8_find n) (.ref a145_5 :: [.int r127]) σ136 (gc_Pr (fun r145 σ145 => gc_is σ145 a0 6 ∧ ∃ a155_6 : Nat, gc_R σ145 606 a0 = some a155_6 ∧ gc_is σ145 a155_6 7 ∧ gx_C (gc_O θ) (nX8_find n) (.ref a155_6 :: [.int r127]) σ145 (gc_Pr (fun r155 σ155 => gc_is σ155 a0 6 ∧ gx_C (gc_O θ) (nX6_kindOf n) (.ref a0 :: [.int r127, va_rf r136, va_rf r145, va_rf r155, .int 1]) σ155 (gc_Pr (fun r168 σ168 => gc_is σ168 a0 6 ∧ gx_C (gc_O θ) (nX6_labelOf n) (.ref a0 :: [.int r127, va_rf r136, va_rf r145, va_rf r155, .int 1]) σ168 (gc_Pr (fun r180 σ180 => gc_is σ180 a0 6 ∧ gx_C (gc_O θ) (nX6_textOf n) (.ref a0 :: [.int r127, va_rf r136, va_rf r145, va_rf r155, .int 1]) σ180 (gc_Pr (fun r192 σ192 => gc_is σ192 a0 6 ∧ gx_C (gc_O θ) (nX6_listOf n) (.ref a0 :: [.int r127, va_rf r136, va_rf r145, va_rf r155, .int 1]) σ192 (gc_Pr (fun r204 σ204 => gc_G θ K (nX6_tellAll (n + 1) c s) (gc_Pv P) 105 [(0, va_rf (some a0)), (1, .int (x1 + 1))] [] σ204 bc bs))))))))))))))))))))))) : gc_G θ K (nX6_tellAll (n + 1) c s) (gc_Pv P) 105 [(0, va_rf (some a0)), (1, .int x1)] [] σ bc bs := by
  refine gx_iload_n h 1 rfl dX6_tellAll_105 ?_
  refine gx_aload_nq (r := some a0) h 0 rfl dX6_tellAll_106 ?_
  refine gcg_X6_12 h rfl rfl k.1 dX6_tellAll_107 ?_
  replace k := k.2
  obtain ⟨a110_1, e110_1, k⟩ := k
  refine gcc_X6_41 (r := gc_R σ 600 a0)  h rfl ⟨Nat.le_refl _, Nat.le_refl _⟩ e110_1 k.1 (Nat.le_of_ble_eq_true rfl) dX6_tellAll_110 (gx_C.mono k.2 ?_)
  rintro _ σ110 ⟨r110, rfl, k⟩
  refine ⟨r110, rfl, ?_⟩
  refine gx_icmp_ge (tgt := 214) h (by decide) dX6_tellAll_113 (fun c => ?_) (fun c => ?_)
  · replace k := k.1 c
    exact gx_vret h rfl dX6_tellAll_214 (⟨rfl, k⟩)
  · replace k := k.2 c
    refine gx_aload_nq (r := some a0) h 0 rfl dX6_tellAll_116 ?_
    refine gcg_X6_12 h rfl rfl k.1 dX6_tellAll_117 ?_
    replace k := k.2
    refine gx_iload_n h 1 rfl dX6_tellAll_120 ?_
    obtain ⟨a121_2, e121_2, k⟩ := k
    refine gcc_X6_45 (r := gc_R σ110 600 a0) (a0 := x1) h rfl ⟨Nat.le_refl _, Nat.le_refl _⟩ e121_2 k.1 (Nat.le_of_ble_eq_true rfl) dX6_tellAll_121 (gx_C.mono k.2 ?_)
    rintro _ σ121 ⟨r121, rfl, k⟩
    refine ⟨r121, rfl, ?_⟩
    refine gc_castI (r := r121) h rfl q1214 k.1 dX6_tellAll_124 ?_
    replace k := k.2
    obtain ⟨a127_3, e127_3, k⟩ := k
    refine gcc_X6_156 (r := r121)  h rfl ⟨Nat.le_refl _, Nat.le_refl _⟩ e127_3 k.1 (Nat.le_of_ble_eq_true rfl) dX6_tellAll_127 (gx_C.mono k.2 ?_)
    rintro _ σ127 ⟨r127, rfl, k⟩
    refine ⟨r127, rfl, ?_⟩
    refine gx_istore_n (L' := [(2, .int r127), (0, va_rf (some a0)), (1, .int x1)]) h (Nat.le_of_ble_eq_true rfl) rfl dX6_tellAll_130 ?_
    refine gx_aload_nq (r := some a0) h 1 rfl dX6_tellAll_131 ?_
    refine gcg_X6_83 h rfl rfl k.1 dX6_tellAll_132 ?_
    replace k := k.2
    refine gx_iload_n h 0 rfl dX6_tellAll_135 ?_
    obtain ⟨a136_4, e136_4, k⟩ := k
    refine gcc_X6_116 (r := gc_R σ127 604 a0) (a0 := r127) h rfl ⟨Nat.le_refl _, Nat.le_refl _⟩ e136_4 k.1 (Nat.le_of_ble_eq_true rfl) dX6_tellAll_136 (gx_C.mono k.2 ?_)
    rintro _ σ136 ⟨r136, rfl, k⟩
    refine ⟨r136, rfl, ?_⟩
    refine gx_astore_nq (r := r136) (L' := [(3, va_rf r136), (2, .int r127), (0, va_rf (some a0)), (1, .int x1)]) h (Nat.le_of_ble_eq_true rfl) rfl dX6_tellAll_139 ?_
    refine gx_aload_nq (r := some a0) h 2 rfl dX6_tellAll_140 ?_
    refine gcg_X6_87 h rfl rfl k.1 dX6_tellAll_141 ?_
    replace k := k.2
    refine gx_iload_n h 1 rfl dX6_tellAll_144 ?_
    obtain ⟨a145_5, e145_5, k⟩ := k
    refine gcc_X6_116 (r := gc_R σ136 605 a0) (a0 := r127) h rfl ⟨Nat.le_refl _, Nat.le_refl _⟩ e145_5 k.1 (Nat.le_of_ble_eq_true rfl) dX6_tellAll_145 (gx_C.mono k.2 ?_)
    rintro _ σ145 ⟨r145, rfl, k⟩
    refine ⟨r145, rfl, ?_⟩
    refine gx_astoreq (r := r145) (L' := [(4, va_rf r145), (3, va_rf r136), (2, .int r127), (0, va_rf (some a0)), (1, .int x1)]) h (Nat.le_of_ble_eq_true rfl) (by generalize r136 = z; cases z <;> rfl) dX6_tellAll_148 ?_
    refine gx_aload_nq (r := some a0) h 3 rfl dX6_tellAll_150 ?_
    refine gcg_X6_90 h rfl rfl k.1 dX6_tellAll_151 ?_
    replace k := k.2
    refine gx_iload_n h 2 rfl dX6_tellAll_154 ?_
    obtain ⟨a155_6, e155_6, k⟩ := k
    refine gcc_X6_116 (r := gc_R σ145 606 a0) (a0 := r127) h rfl ⟨Nat.le_refl _, Nat.le_refl _⟩ e155_6 k.1 (Nat.le_of_ble_eq_true rfl) dX6_tellAll_155 (gx_C.mono k.2 ?_)
    rintro _ σ155 ⟨r155, rfl, k⟩
    refine ⟨r155, rfl, ?_⟩
    refine gx_astoreq (r := r155) (L' := [(5, va_rf r155), (4, va_rf r145), (3, va_rf r136), (2, .int r127), (0, va_rf (some a0)), (1, .int x1)]) h (Nat.le_of_ble_eq_true rfl) (by generalize r145 = z; cases z <;> rfl) dX6_tellAll_158 ?_
    refine gx_aload_nq (r := some a0) h 4 rfl dX6_tellAll_160 ?_
    refine gx_iload_n h 3 rfl dX6_tellAll_161 ?_
    refine gx_aload_nq (r := r136) h 2 rfl dX6_tellAll_162 ?_
    refine gx_aloadq (r := r145) h 1 rfl dX6_tellAll_163 ?_
    refine gx_aloadq (r := r155) h 0 rfl dX6_tellAll_165 ?_
    refine gx_iconst (v := 1) h dX6_tellAll_167 (by decide) ?_
    refine gcc_X6_120 (r := some a0) (a0 := r127) (a1 := r136) (a2 := r145) (a3 := r155) (a4 := 1) h rfl ⟨Nat.le_refl _, Nat.le_refl _⟩ rfl k.1 (Nat.le_of_ble_eq_true rfl) dX6_tellAll_168 (gx_C.mono k.2 ?_)
    rintro _ σ168 ⟨r168, rfl, k⟩
    refine ⟨r168, rfl, ?_⟩
    refine gx_pop h (gx_cat _) dX6_tellAll_171 ?_
    refine gx_aload_nq (r := some a0) h 4 rfl dX6_tellAll_172 ?_
    refine gx_iload_n h 3 rfl dX6_tellAll_173 ?_
    refine gx_aload_nq (r := r136) h 2 rfl dX6_tellAll_174 ?_
    refine gx_aloadq (r := r145) h 1 rfl dX6_tellAll_175 ?_
    refine gx_aloadq (r := r155) h 0 rfl dX6_tellAll_177 ?_
    refine gx_iconst (v := 1) h dX6_tellAll_179 (by decide) ?_
    refine gcc_X6_124 (r := some a0) (a0 := r127) (a1 := r136) (a2 := r145) (a3 := r155) (a4 := 1) h rfl ⟨Nat.le_refl _, Nat.le_refl _⟩ rfl k.1 (Nat.le_of_ble_eq_true rfl) dX6_tellAll_180 (gx_C.mono k.2 ?_)
    rintro _ σ180 ⟨r180, rfl, k⟩
    refine ⟨r180, rfl, ?_⟩
    refine gx_pop h (gx_cat _) dX6_tellAll_183 ?_
    refine gx_aload_nq (r := some a0) h 4 rfl dX6_tellAll_184 ?_
    refine gx_iload_n h 3 rfl dX6_tellAll_185 ?_
    refine gx_aload_nq (r := r136) h 2 rfl dX6_tellAll_186 ?_
    refine gx_aloadq (r := r145) h 1 rfl dX6_tellAll_187 ?_
    refine gx_aloadq (r := r155) h 0 rfl dX6_tellAll_189 ?_
    refine gx_iconst (v := 1) h dX6_tellAll_191 (by decide) ?_
    refine gcc_X6_127 (r := some a0) (a0 := r127) (a1 := r136) (a2 := r145) (a3 := r155) (a4 := 1) h rfl ⟨Nat.le_refl _, Nat.le_refl _⟩ rfl k.1 (Nat.le_of_ble_eq_true rfl) dX6_tellAll_192 (gx_C.mono k.2 ?_)
    rintro _ σ192 ⟨r192, rfl, k⟩
    refine ⟨r192, rfl, ?_⟩
    refine gx_pop h (gx_cat _) dX6_tellAll_195 ?_
    refine gx_aload_nq (r := some a0) h 4 rfl dX6_tellAll_196 ?_
    refine gx_iload_n h 3 rfl dX6_tellAll_197 ?_
    refine gx_aload_nq (r := r136) h 2 rfl dX6_tellAll_198 ?_
    refine gx_aloadq (r := r145) h 1 rfl dX6_tellAll_199 ?_
    refine gx_aloadq (r := r155) h 0 rfl dX6_tellAll_201 ?_
    refine gx_iconst (v := 1) h dX6_tellAll_203 (by decide) ?_
    refine gcc_X6_137 (r := some a0) (a0 := r127) (a1 := r136) (a2 := r145) (a3 := r155) (a4 := 1) h rfl ⟨Nat.le_refl _, Nat.le_refl _⟩ rfl k.1 (Nat.le_of_ble_eq_true rfl) dX6_tellAll_204 (gx_C.mono k.2 ?_)
    rintro _ σ204 ⟨r204, rfl, k⟩
    refine ⟨r204, rfl, ?_⟩
    refine gx_pop h (gx_cat _) dX6_tellAll_207 ?_
    refine gx_iinc (v := x1 + 1) (L' := [(1, .int (x1 + 1)), (5, va_rf r155), (4, va_rf r145), (3, va_rf r136), (2, .int r127), (0, va_rf (some a0))]) h 5 rfl rfl (Nat.le_of_ble_eq_true rfl) rfl dX6_tellAll_208 ?_
    refine gx_goto (tgt := 105) h (by decide) dX6_tellAll_211 ?_
    exact gx_sub [5, 0] rfl k
/-! X8.init -/
theorem ec_X8_init {θ : gc_T} {P : gc_S → Prop} {σ : gc_S} {n c s : Nat} {a0 : Nat} {x1 : Option Nat} (body : ∀ K, gc_K θ K (nX8_init (n + 1) c s) → gc_G θ K (nX8_init (n + 1) c s) (gc_Pv P) 0 [(0, va_rf (some a0)), (1, va_rf x1)] [] σ c s) : gx_C (gc_O θ) (nX8_init (n + 1) c s) [.ref a0, va_rf x1] σ (gc_Pv P) := by
  refine gx_C.intro (gc_z_warm θ) rfl (by cases x1 <;> exact Nat.le_of_ble_eq_true rfl) (fun K h => ?_)
  have k := body K h
  cases x1 <;> exact k
theorem bc_X8_init_0 {θ : gc_T} {K : gx_K} {P : gc_S → Prop} {σ : gc_S} {x1 : Option Nat} {a0 n c s bc bs : Nat} (h : gc_K θ K (nX8_init (n + 1) c s)) (k : ¬ (31 : Int32) < 0 ∧ (31 : Int32).toNatClampNeg ≤ 100000 ∧ 1 ≤ bc ∧ (31 : Int32).toNatClampNeg ≤ bs ∧ ∀ q7, q7 ∉ gc_d σ → gc_A θ q7 → ∀ σ7, σ7 = gc_new σ q7 18 (31 : Int32).toNatClampNeg → gc_is σ7 a0 7 ∧ ∀ σ10, σ10 = gc_sR σ7 701 a0 (some q7) → ¬ (31 : Int32) < 0 ∧ (31 : Int32).toNatClampNeg ≤ 100000 ∧ 1 ≤ (bc - 1) ∧ (31 : Int32).toNatClampNeg ≤ (bs - (31 : Int32).toNatClampNeg) ∧ ∀ q16, q16 ∉ gc_d σ10 → gc_A θ q16 → ∀ σ16, σ16 = gc_new σ10 q16 18 (31 : Int32).toNatClampNeg → gc_is σ16 a0 7 ∧ ∀ σ19, σ19 = gc_sR σ16 702 a0 (some q16) → gc_is σ19 a0 7 ∧ ∀ σ24, σ24 = gc_sR σ19 700 a0 x1 → gc_is σ24 a0 7 ∧ gx_C (gc_O θ) (nX8_number n) (.ref a0 :: []) σ24 (gc_Pi (fun r28 σ28 => P σ28))) : gc_G θ K (nX8_init (n + 1) c s) (gc_Pv P) 0 [(0, va_rf (some a0)), (1, va_rf x1)] [] σ bc bs := by
  refine gx_aload_nq (r := some a0) h 0 rfl dX8_init_0 ?_
  refine gcc_X8_3 (n := n) (r := some a0) h rfl ⟨Nat.le_refl _, Nat.le_refl _⟩ rfl (Nat.le_of_ble_eq_true rfl) dX8_init_1 ?_
  refine gx_aload_nq (r := some a0) h 0 rfl dX8_init_4 ?_
  refine gx_bipush (v := 31) h dX8_init_5 (by decide) ?_
  refine gc_newq (k := 18) (t := 4) (by decide) rfl h rfl q696 q238 k.1 k.2.1 dX8_init_7 k.2.2.1 k.2.2.2.1 (fun q7 hq hA => ?_)
  generalize hz : gc_new σ q7 18 (31 : Int32).toNatClampNeg = σ7
  replace k := k.2.2.2.2 q7 hq hA σ7 hz.symm
  refine gcp_X8_11 (v := some q7) h rfl rfl rfl k.1 dX8_init_10 ?_
  generalize hz : gc_sR σ7 701 a0 (some q7) = σ10
  replace k := k.2 σ10 hz.symm
  refine gx_aload_nq (r := some a0) h 0 rfl dX8_init_13 ?_
  refine gx_bipush (v := 31) h dX8_init_14 (by decide) ?_
  refine gc_newq (k := 18) (t := 4) (by decide) rfl h rfl q696 q238 k.1 k.2.1 dX8_init_16 k.2.2.1 k.2.2.2.1 (fun q16 hq hA => ?_)
  generalize hz : gc_new σ10 q16 18 (31 : Int32).toNatClampNeg = σ16
  replace k := k.2.2.2.2 q16 hq hA σ16 hz.symm
  refine gcp_X8_17 (v := some q16) h rfl rfl rfl k.1 dX8_init_19 ?_
  generalize hz : gc_sR σ16 702 a0 (some q16) = σ19
  replace k := k.2 σ19 hz.symm
  refine gx_aload_nq (r := some a0) h 0 rfl dX8_init_22 ?_
  refine gx_aload_nq (r := x1) h 1 rfl dX8_init_23 ?_
  refine gcp_X8_20 (v := x1) h rfl rfl k.1 dX8_init_24 ?_
  generalize hz : gc_sR σ19 700 a0 x1 = σ24
  replace k := k.2 σ24 hz.symm
  refine gx_aload_nq (r := some a0) h 0 rfl dX8_init_27 ?_
  refine gcc_X8_24 (r := some a0)  h rfl ⟨Nat.le_refl _, Nat.le_refl _⟩ rfl k.1 (Nat.le_of_ble_eq_true rfl) dX8_init_28 (gx_C.mono k.2 ?_)
  rintro _ σ28 ⟨r28, rfl, k⟩
  refine ⟨r28, rfl, ?_⟩
  refine gx_pop h rfl dX8_init_31 ?_
  exact gx_vret h rfl dX8_init_32 (⟨rfl, k⟩)
/-! X8.number -/
theorem ec_X8_number {θ : gc_T} {P : Int32 → gc_S → Prop} {σ : gc_S} {n : Nat} {a0 : Nat} (body : ∀ K, gc_K θ K (nX8_number (n + 1)) → gc_G θ K (nX8_number (n + 1)) (gc_Pi P) 0 [(0, va_rf (some a0))] [] σ 0 0) : gx_C (gc_O θ) (nX8_number (n + 1)) [.ref a0] σ (gc_Pi P) :=
  gx_C.intro (gc_z_warm θ) rfl (Nat.le_of_ble_eq_true rfl) body
theorem bc_X8_number_0 {θ : gc_T} {K : gx_K} {P : Int32 → gc_S → Prop} {σ : gc_S} {a0 n bc bs : Nat} (h : gc_K θ K (nX8_number (n + 1))) (k : gc_is σ a0 7 ∧ ∀ σ2, σ2 = gc_sI σ 703 a0 0 → gc_is σ2 a0 7 ∧ ∀ σ7, σ7 = gc_sI σ2 704 a0 0 → gc_is σ7 a0 7 ∧ ∃ a15_1 : Nat, gc_R σ7 700 a0 = some a15_1 ∧ gc_isN σ7 a15_1 ∧ ∀ σ15, σ15 = gc_sI σ7 808 a15_1 0 → gc_is σ15 a0 7 ∧ gc_is σ15 a0 7 ∧ gx_C (gc_O θ) (nX8_number_2 n) (.ref a0 :: [va_rf (gc_R σ15 700 a0)]) σ15 (gc_Pi (fun r23 σ23 => narrow .boolean (.int r23) = .int r23 ∧ P r23 σ23))) : gc_G θ K (nX8_number (n + 1)) (gc_Pi P) 0 [(0, va_rf (some a0))] [] σ bc bs := by
  refine gx_aload_nq (r := some a0) h 0 rfl dX8_number_0 ?_
  refine gx_iconst (v := 0) h dX8_number_1 (by decide) ?_
  refine gcp_X8_28 (v := 0) h rfl rfl k.1 dX8_number_2 ?_
  generalize hz : gc_sI σ 703 a0 0 = σ2
  replace k := k.2 σ2 hz.symm
  refine gx_aload_nq (r := some a0) h 0 rfl dX8_number_5 ?_
  refine gx_iconst (v := 0) h dX8_number_6 (by decide) ?_
  refine gcp_X8_32 (v := 0) h rfl rfl k.1 dX8_number_7 ?_
  generalize hz : gc_sI σ2 704 a0 0 = σ7
  replace k := k.2 σ7 hz.symm
  refine gx_aload_nq (r := some a0) h 0 rfl dX8_number_10 ?_
  refine gcg_X8_20 h rfl rfl k.1 dX8_number_11 ?_
  replace k := k.2
  refine gx_iconst (v := 0) h dX8_number_14 (by decide) ?_
  obtain ⟨a15_1, e15_1, k⟩ := k
  refine gcp_X8_35 (v := 0) h rfl e15_1 k.1 dX8_number_15 ?_
  generalize hz : gc_sI σ7 808 a15_1 0 = σ15
  replace k := k.2 σ15 hz.symm
  refine gx_aload_nq (r := some a0) h 0 rfl dX8_number_18 ?_
  refine gx_aload_nq (r := some a0) h 0 rfl dX8_number_19 ?_
  refine gcg_X8_20 h rfl rfl k.1 dX8_number_20 ?_
  replace k := k.2
  refine gcc_X8_38 (r := some a0) (a0 := gc_R σ15 700 a0) h rfl ⟨Nat.le_refl _, Nat.le_refl _⟩ rfl k.1 (Nat.le_of_ble_eq_true rfl) dX8_number_23 (gx_C.mono k.2 ?_)
  rintro _ σ23 ⟨r23, rfl, k⟩
  refine ⟨r23, rfl, ?_⟩
  exact gx_zret h rfl k.1 dX8_number_26 (⟨_, rfl, k.2⟩)
/-! X8.number_2 -/
theorem ec_X8_number_2 {θ : gc_T} {P : Int32 → gc_S → Prop} {σ : gc_S} {n : Nat} {a0 : Nat} {x1 : Option Nat} (body : ∀ K, gc_K θ K (nX8_number_2 (n + 1)) → gc_G θ K (nX8_number_2 (n + 1)) (gc_Pi P) 0 [(0, va_rf (some a0)), (1, va_rf x1)] [] σ 0 0) : gx_C (gc_O θ) (nX8_number_2 (n + 1)) [.ref a0, va_rf x1] σ (gc_Pi P) := by
  refine gx_C.intro (gc_z_warm θ) rfl (by cases x1 <;> exact Nat.le_of_ble_eq_true rfl) (fun K h => ?_)
  have k := body K h
  cases x1 <;> exact k
theorem bc_X8_number_2_0 {θ : gc_T} {K : gx_K} {P : Int32 → gc_S → Prop} {σ : gc_S} {x1 : Option Nat} {a0 n bc bs : Nat} (h : gc_K θ K (nX8_number_2 (n + 1))) (k : gc_is σ a0 7 ∧ (((gc_I σ 703 a0) = 30 → gc_G θ K (nX8_number_2 (n + 1)) (gc_Pi P) 18 [] [] σ bc bs) ∧ (¬ (gc_I σ 703 a0) = 30 → ∃ a10_1 : Nat, x1 = some a10_1 ∧ gc_isN σ a10_1 ∧ (((gc_I σ 808 a10_1) < 12 → gc_is σ a0 7 ∧ gc_is σ a0 7 ∧ ∃ a29_2 : Nat, gc_R σ 701 a0 = some a29_2 ∧ gc_is σ a29_2 18 ∧ vp_in (gc_I σ 703 a0) (gc_n σ a29_2) ∧ (∀ v, x1 = some v → gc_isN σ v) ∧ ∀ σ29, σ29 = gc_sQ σ a29_2 (gc_I σ 703 a0).toNatClampNeg x1 → gc_is σ29 a0 7 ∧ gc_isN σ29 a10_1 ∧ ∀ σ35, σ35 = gc_sI σ29 805 a10_1 (gc_I σ29 703 a0) → gc_is σ35 a0 7 ∧ gc_is σ35 a0 7 ∧ ∀ σ45, σ45 = gc_sI σ35 703 a0 ((gc_I σ35 703 a0) + 1) → gc_is σ45 a0 7 ∧ gc_isN σ45 a10_1 ∧ ∀ σ53, σ53 = gc_sI σ45 807 a10_1 (gc_I σ45 704 a0) → gc_G θ K (nX8_number_2 (n + 1)) (gc_Pi P) 58 [(0, va_rf (some a0)), (1, va_rf x1), (2, .int 0)] [] σ53 bc bs) ∧ (¬ (gc_I σ 808 a10_1) < 12 → gc_G θ K (nX8_number_2 (n + 1)) (gc_Pi P) 18 [] [] σ bc bs))))) : gc_G θ K (nX8_number_2 (n + 1)) (gc_Pi P) 0 [(0, va_rf (some a0)), (1, va_rf x1)] [] σ bc bs := by
  refine gx_aload_nq (r := some a0) h 0 rfl dX8_number_2_0 ?_
  refine gcg_X8_28 h rfl rfl k.1 dX8_number_2_1 ?_
  replace k := k.2
  refine gx_bipush (v := 30) h dX8_number_2_4 (by decide) ?_
  refine gx_icmp_eq (tgt := 18) h (by decide) dX8_number_2_6 (fun c => ?_) (fun c => ?_)
  · replace k := k.1 c
    exact gx_sub [] rfl k
  · replace k := k.2 c
    refine gx_aload_nq (r := x1) h 1 rfl dX8_number_2_9 ?_
    obtain ⟨a10_1, e10_1, k⟩ := k
    refine gcg_X8_35 h rfl e10_1 k.1 dX8_number_2_10 ?_
    replace k := k.2
    refine gx_bipush (v := 12) h dX8_number_2_13 (by decide) ?_
    refine gx_icmp_lt (tgt := 20) h (by decide) dX8_number_2_15 (fun c => ?_) (fun c => ?_)
    · replace k := k.1 c
      refine gx_aload_nq (r := some a0) h 0 rfl dX8_number_2_20 ?_
      refine gcg_X8_11 h rfl rfl k.1 dX8_number_2_21 ?_
      replace k := k.2
      refine gx_aload_nq (r := some a0) h 0 rfl dX8_number_2_24 ?_
      refine gcg_X8_28 h rfl rfl k.1 dX8_number_2_25 ?_
      replace k := k.2
      refine gx_aload_nq (r := x1) h 1 rfl dX8_number_2_28 ?_
      obtain ⟨a29_2, e29_2, k⟩ := k
      refine gc_aast18E (r := gc_R σ 701 a0) (w := x1) h e29_2 k.1 k.2.1 k.2.2.1 dX8_number_2_29 ?_
      generalize hz : gc_sQ σ a29_2 (gc_I σ 703 a0).toNatClampNeg x1 = σ29
      replace k := k.2.2.2 σ29 hz.symm
      refine gx_aload_nq (r := x1) h 1 rfl dX8_number_2_30 ?_
      refine gx_aload_nq (r := some a0) h 0 rfl dX8_number_2_31 ?_
      refine gcg_X8_28 h rfl rfl k.1 dX8_number_2_32 ?_
      replace k := k.2
      refine gcp_X8_41 (v := gc_I σ29 703 a0) h rfl e10_1 k.1 dX8_number_2_35 ?_
      generalize hz : gc_sI σ29 805 a10_1 (gc_I σ29 703 a0) = σ35
      replace k := k.2 σ35 hz.symm
      refine gx_aload_nq (r := some a0) h 0 rfl dX8_number_2_38 ?_
      refine gx_dup h rfl dX8_number_2_39 ?_
      refine gcg_X8_28 h rfl rfl k.1 dX8_number_2_40 ?_
      replace k := k.2
      refine gx_iconst (v := 1) h dX8_number_2_43 (by decide) ?_
      refine gx_iadd h dX8_number_2_44 ?_
      refine gcp_X8_28 (v := (gc_I σ35 703 a0) + 1) h rfl rfl k.1 dX8_number_2_45 ?_
      generalize hz : gc_sI σ35 703 a0 ((gc_I σ35 703 a0) + 1) = σ45
      replace k := k.2 σ45 hz.symm
      refine gx_aload_nq (r := x1) h 1 rfl dX8_number_2_48 ?_
      refine gx_aload_nq (r := some a0) h 0 rfl dX8_number_2_49 ?_
      refine gcg_X8_32 h rfl rfl k.1 dX8_number_2_50 ?_
      replace k := k.2
      refine gcp_X8_43 (v := gc_I σ45 704 a0) h rfl e10_1 k.1 dX8_number_2_53 ?_
      generalize hz : gc_sI σ45 807 a10_1 (gc_I σ45 704 a0) = σ53
      replace k := k.2 σ53 hz.symm
      refine gx_iconst (v := 0) h dX8_number_2_56 (by decide) ?_
      refine gx_istore_n (L' := [(2, .int 0), (0, va_rf (some a0)), (1, va_rf x1)]) h (Nat.le_of_ble_eq_true rfl) (by generalize x1 = z; cases z <;> rfl) dX8_number_2_57 ?_
      exact gx_sub [1, 2, 0] rfl k
    · replace k := k.2 c
      exact gx_sub [] rfl k
theorem bc_X8_number_2_18 {θ : gc_T} {K : gx_K} {P : Int32 → gc_S → Prop} {σ : gc_S} {n bc bs : Nat} (h : gc_K θ K (nX8_number_2 (n + 1))) (k : P 0 σ) : gc_G θ K (nX8_number_2 (n + 1)) (gc_Pi P) 18 [] [] σ bc bs := by
  refine gx_iconst (v := 0) h dX8_number_2_18 (by decide) ?_
  exact gx_zret h rfl rfl dX8_number_2_19 (⟨_, rfl, k⟩)
theorem bc_X8_number_2_58 {θ : gc_T} {K : gx_K} {P : Int32 → gc_S → Prop} {σ : gc_S} {x2 : Int32} {x1 : Option Nat} {a0 n bc bs : Nat} (h : gc_K θ K (nX8_number_2 (n + 1))) (k : ∃ a60_1 : Nat, x1 = some a60_1 ∧ gc_isN σ a60_1 ∧ ∃ a63_2 : Nat, gc_R σ 804 a60_1 = some a63_2 ∧ gc_is σ a63_2 12 ∧ gx_C (gc_O θ) (nJ5_size n) (.ref a63_2 :: []) σ (gc_Pi (fun r63 σ63 => ((r63 ≤ x2 → gc_is σ63 a0 7 ∧ gc_is σ63 a0 7 ∧ ∃ a124_3 : Nat, gc_R σ63 702 a0 = some a124_3 ∧ gc_is σ63 a124_3 18 ∧ vp_in (gc_I σ63 704 a0) (gc_n σ63 a124_3) ∧ (∀ v, x1 = some v → gc_isN σ63 v) ∧ ∀ σ124, σ124 = gc_sQ σ63 a124_3 (gc_I σ63 704 a0).toNatClampNeg x1 → gc_is σ124 a0 7 ∧ gc_isN σ124 a60_1 ∧ ∀ σ130, σ130 = gc_sI σ124 806 a60_1 (gc_I σ124 704 a0) → gc_is σ130 a0 7 ∧ gc_is σ130 a0 7 ∧ ∀ σ140, σ140 = gc_sI σ130 704 a0 ((gc_I σ130 704 a0) + 1) → P 1 σ140) ∧ (¬ r63 ≤ x2 → gc_isN σ63 a60_1 ∧ ∃ a74_4 : Nat, gc_R σ63 804 a60_1 = some a74_4 ∧ gc_is σ63 a74_4 12 ∧ gx_C (gc_O θ) (nJ5_get n) (.ref a74_4 :: [.int x2]) σ63 (gc_Pr (fun r74 σ74 => (∀ a, r74 = some a → gc_isN σ74 a) ∧ gc_isN σ74 a60_1 ∧ ∃ a86_5 : Nat, r74 = some a86_5 ∧ gc_isN σ74 a86_5 ∧ ∀ σ86, σ86 = gc_sI σ74 808 a86_5 ((gc_I σ74 808 a60_1) + 1) → gc_isN σ86 a60_1 ∧ ∃ a95_6 : Nat, gc_R σ86 804 a60_1 = some a95_6 ∧ gc_is σ86 a95_6 12 ∧ gx_C (gc_O θ) (nJ5_get n) (.ref a95_6 :: [.int x2]) σ86 (gc_Pr (fun r95 σ95 => (∀ a, r95 = some a → gc_isN σ95 a) ∧ gc_is σ95 a0 7 ∧ gx_C (gc_O θ) (nX8_number_2 n) (.ref a0 :: [va_rf r95]) σ95 (gc_Pi (fun r101 σ101 => ((r101 = 0 → P 0 σ101) ∧ (¬ r101 = 0 → gc_G θ K (nX8_number_2 (n + 1)) (gc_Pi P) 58 [(0, va_rf (some a0)), (1, va_rf x1), (2, .int (x2 + 1))] [] σ101 bc bs))))))))))))) : gc_G θ K (nX8_number_2 (n + 1)) (gc_Pi P) 58 [(0, va_rf (some a0)), (1, va_rf x1), (2, .int x2)] [] σ bc bs := by
  refine gx_iload_n h 2 rfl dX8_number_2_58 ?_
  refine gx_aload_nq (r := x1) h 1 rfl dX8_number_2_59 ?_
  obtain ⟨a60_1, e60_1, k⟩ := k
  refine gcg_X8_46 h rfl e60_1 k.1 dX8_number_2_60 ?_
  replace k := k.2
  obtain ⟨a63_2, e63_2, k⟩ := k
  refine gcc_X8_50 (r := gc_R σ 804 a60_1)  h rfl ⟨Nat.le_refl _, Nat.le_refl _⟩ e63_2 k.1 (Nat.le_of_ble_eq_true rfl) dX8_number_2_63 (gx_C.mono k.2 ?_)
  rintro _ σ63 ⟨r63, rfl, k⟩
  refine ⟨r63, rfl, ?_⟩
  refine gx_icmp_ge (tgt := 115) h (by decide) dX8_number_2_66 (fun c => ?_) (fun c => ?_)
  · replace k := k.1 c
    refine gx_aload_nq (r := some a0) h 0 rfl dX8_number_2_115 ?_
    refine gcg_X8_17 h rfl rfl k.1 dX8_number_2_116 ?_
    replace k := k.2
    refine gx_aload_nq (r := some a0) h 0 rfl dX8_number_2_119 ?_
    refine gcg_X8_32 h rfl rfl k.1 dX8_number_2_120 ?_
    replace k := k.2
    refine gx_aload_nq (r := x1) h 1 rfl dX8_number_2_123 ?_
    obtain ⟨a124_3, e124_3, k⟩ := k
    refine gc_aast18E (r := gc_R σ63 702 a0) (w := x1) h e124_3 k.1 k.2.1 k.2.2.1 dX8_number_2_124 ?_
    generalize hz : gc_sQ σ63 a124_3 (gc_I σ63 704 a0).toNatClampNeg x1 = σ124
    replace k := k.2.2.2 σ124 hz.symm
    refine gx_aload_nq (r := x1) h 1 rfl dX8_number_2_125 ?_
    refine gx_aload_nq (r := some a0) h 0 rfl dX8_number_2_126 ?_
    refine gcg_X8_32 h rfl rfl k.1 dX8_number_2_127 ?_
    replace k := k.2
    refine gcp_X8_59 (v := gc_I σ124 704 a0) h rfl e60_1 k.1 dX8_number_2_130 ?_
    generalize hz : gc_sI σ124 806 a60_1 (gc_I σ124 704 a0) = σ130
    replace k := k.2 σ130 hz.symm
    refine gx_aload_nq (r := some a0) h 0 rfl dX8_number_2_133 ?_
    refine gx_dup h rfl dX8_number_2_134 ?_
    refine gcg_X8_32 h rfl rfl k.1 dX8_number_2_135 ?_
    replace k := k.2
    refine gx_iconst (v := 1) h dX8_number_2_138 (by decide) ?_
    refine gx_iadd h dX8_number_2_139 ?_
    refine gcp_X8_32 (v := (gc_I σ130 704 a0) + 1) h rfl rfl k.1 dX8_number_2_140 ?_
    generalize hz : gc_sI σ130 704 a0 ((gc_I σ130 704 a0) + 1) = σ140
    replace k := k.2 σ140 hz.symm
    refine gx_iconst (v := 1) h dX8_number_2_143 (by decide) ?_
    exact gx_zret h rfl rfl dX8_number_2_144 (⟨_, rfl, k⟩)
  · replace k := k.2 c
    refine gx_aload_nq (r := x1) h 1 rfl dX8_number_2_69 ?_
    refine gcg_X8_46 h rfl e60_1 k.1 dX8_number_2_70 ?_
    replace k := k.2
    refine gx_iload_n h 2 rfl dX8_number_2_73 ?_
    obtain ⟨a74_4, e74_4, k⟩ := k
    refine gcc_X8_55 (r := gc_R σ63 804 a60_1) (a0 := x2) h rfl ⟨Nat.le_refl _, Nat.le_refl _⟩ e74_4 k.1 (Nat.le_of_ble_eq_true rfl) dX8_number_2_74 (gx_C.mono k.2 ?_)
    rintro _ σ74 ⟨r74, rfl, k⟩
    refine ⟨r74, rfl, ?_⟩
    refine gc_castN (r := r74) h rfl q696 q1639 q1638 q1640 q1641 k.1 dX8_number_2_77 ?_
    replace k := k.2
    refine gx_aload_nq (r := x1) h 1 rfl dX8_number_2_80 ?_
    refine gcg_X8_35 h rfl e60_1 k.1 dX8_number_2_81 ?_
    replace k := k.2
    refine gx_iconst (v := 1) h dX8_number_2_84 (by decide) ?_
    refine gx_iadd h dX8_number_2_85 ?_
    obtain ⟨a86_5, e86_5, k⟩ := k
    refine gcp_X8_35 (v := (gc_I σ74 808 a60_1) + 1) h rfl e86_5 k.1 dX8_number_2_86 ?_
    generalize hz : gc_sI σ74 808 a86_5 ((gc_I σ74 808 a60_1) + 1) = σ86
    replace k := k.2 σ86 hz.symm
    refine gx_aload_nq (r := some a0) h 0 rfl dX8_number_2_89 ?_
    refine gx_aload_nq (r := x1) h 1 rfl dX8_number_2_90 ?_
    refine gcg_X8_46 h rfl e60_1 k.1 dX8_number_2_91 ?_
    replace k := k.2
    refine gx_iload_n h 2 rfl dX8_number_2_94 ?_
    obtain ⟨a95_6, e95_6, k⟩ := k
    refine gcc_X8_55 (r := gc_R σ86 804 a60_1) (a0 := x2) h rfl ⟨Nat.le_refl _, Nat.le_refl _⟩ e95_6 k.1 (Nat.le_of_ble_eq_true rfl) dX8_number_2_95 (gx_C.mono k.2 ?_)
    rintro _ σ95 ⟨r95, rfl, k⟩
    refine ⟨r95, rfl, ?_⟩
    refine gc_castN (r := r95) h rfl q696 q1639 q1638 q1640 q1641 k.1 dX8_number_2_98 ?_
    replace k := k.2
    refine gcc_X8_38 (r := some a0) (a0 := r95) h rfl ⟨Nat.le_refl _, Nat.le_refl _⟩ rfl k.1 (Nat.le_of_ble_eq_true rfl) dX8_number_2_101 (gx_C.mono k.2 ?_)
    rintro _ σ101 ⟨r101, rfl, k⟩
    refine ⟨r101, rfl, ?_⟩
    refine gx_if_ne (tgt := 109) h (by decide) dX8_number_2_104 (fun c => ?_) (fun c => ?_)
    · replace k := k.2 c
      refine gx_iinc (v := x2 + 1) (L' := [(2, .int (x2 + 1)), (0, va_rf (some a0)), (1, va_rf x1)]) h 2 rfl rfl (Nat.le_of_ble_eq_true rfl) (by generalize x1 = z; cases z <;> rfl) dX8_number_2_109 ?_
      refine gx_goto (tgt := 58) h (by decide) dX8_number_2_112 ?_
      exact gx_sub [1, 2, 0] rfl k
    · replace k := k.1 c
      refine gx_iconst (v := 0) h dX8_number_2_107 (by decide) ?_
      exact gx_zret h rfl rfl dX8_number_2_108 (⟨_, rfl, k⟩)
/-! X8.copy -/
theorem ec_X8_copy {θ : gc_T} {P : Option Nat → gc_S → Prop} {σ : gc_S} {n c s : Nat} {a0 : Nat} (body : ∀ K, gc_K θ K (nX8_copy (n + 1) c s) → gc_G θ K (nX8_copy (n + 1) c s) (gc_Pr P) 0 [(0, va_rf (some a0))] [] σ c s) : gx_C (gc_O θ) (nX8_copy (n + 1) c s) [.ref a0] σ (gc_Pr P) :=
  gx_C.intro (gc_z_warm θ) rfl (Nat.le_of_ble_eq_true rfl) body
theorem bc_X8_copy_0 {θ : gc_T} {K : gx_K} {P : Option Nat → gc_S → Prop} {σ : gc_S} {a0 n c s bc bs : Nat} (h : gc_K θ K (nX8_copy (n + 1) c s)) (k : 1 ≤ bc ∧ 5 ≤ bs ∧ ∀ q0, q0 ∉ gc_d σ → gc_A θ q0 → ∀ σ0, σ0 = gc_new σ q0 7 0 → gc_is σ0 a0 7 ∧ ∃ c8 s8 : Nat, (c8 ≤ (bc - 1) ∧ s8 ≤ (bs - 5)) ∧ gx_C (gc_O θ) (nX8_copy_2 n c8 s8) [va_rf (gc_R σ0 700 a0)] σ0 (gc_Pr (fun r8 σ8 => ∃ c11 s11 : Nat, (c11 ≤ ((bc - 1) - c8) ∧ s11 ≤ ((bs - 5) - s8)) ∧ gx_C (gc_O θ) (nX8_init n c11 s11) (.ref q0 :: [va_rf r8]) σ8 (gc_Pv (fun σ11 => P (some q0) σ11))))) : gc_G θ K (nX8_copy (n + 1) c s) (gc_Pr P) 0 [(0, va_rf (some a0))] [] σ bc bs := by
  refine gc_obj (k := 7) (C := RX8) (T := TX8) (N := 5) rfl (by decide) rfl in_X8 tyX8_ok nd_X8 h rfl q853 q430 q80 dX8_copy_0 k.1 k.2.1 (fun q0 hq hA => ?_)
  generalize hz : gc_new σ q0 7 0 = σ0
  replace k := k.2.2 q0 hq hA σ0 hz.symm
  refine gx_dup h rfl dX8_copy_3 ?_
  refine gx_aload_nq (r := some a0) h 0 rfl dX8_copy_4 ?_
  refine gcg_X8_20 h rfl rfl k.1 dX8_copy_5 ?_
  replace k := k.2
  obtain ⟨c8, s8, hb8, k⟩ := k
  refine gcc_X8_64 (a0 := gc_R σ0 700 a0) h rfl ⟨Nat.le_refl _, Nat.le_refl _⟩ hb8 (Nat.le_of_ble_eq_true rfl) dX8_copy_8 (gx_C.mono k ?_)
  rintro _ σ8 ⟨r8, rfl, k⟩
  refine ⟨r8, rfl, ?_⟩
  obtain ⟨c11, s11, hb11, k⟩ := k
  refine gcc_X8_68 (r := some q0) (a0 := r8) h rfl ⟨Nat.le_refl _, Nat.le_refl _⟩ hb11 rfl (Nat.le_of_ble_eq_true rfl) dX8_copy_11 (gx_C.mono k ?_)
  rintro _ σ11 ⟨rfl, k⟩
  refine ⟨rfl, ?_⟩
  exact gx_aret (r := some q0) h rfl (Or.inl ⟨_, rfl⟩) dX8_copy_14 (⟨_, rfl, k⟩)
/-! X8.copy_2 -/
theorem ec_X8_copy_2 {θ : gc_T} {P : Option Nat → gc_S → Prop} {σ : gc_S} {n c s : Nat} {x0 : Option Nat} (body : ∀ K, gc_K θ K (nX8_copy_2 (n + 1) c s) → gc_G θ K (nX8_copy_2 (n + 1) c s) (gc_Pr P) 0 [(0, va_rf x0)] [] σ c s) : gx_C (gc_O θ) (nX8_copy_2 (n + 1) c s) [va_rf x0] σ (gc_Pr P) := by
  refine gx_C.intro (gc_z_warm θ) rfl (by cases x0 <;> exact Nat.le_of_ble_eq_true rfl) (fun K h => ?_)
  have k := body K h
  cases x0 <;> exact k
theorem bc_X8_copy_2_0 {θ : gc_T} {K : gx_K} {P : Option Nat → gc_S → Prop} {σ : gc_S} {x0 : Option Nat} {n c s bc bs : Nat} (h : gc_K θ K (nX8_copy_2 (n + 1) c s)) (k : ∃ a1_1 : Nat, x0 = some a1_1 ∧ gc_isN σ a1_1 ∧ vC_kind θ n σ a1_1 [] (gc_Pi (fun r1 σ1 => gc_isN σ1 a1_1 ∧ gc_isN σ1 a1_1 ∧ gc_isN σ1 a1_1 ∧ ∃ c16 s16 : Nat, (c16 ≤ bc ∧ s16 ≤ bs) ∧ gx_C (gc_O θ) (nX0_made n c16 s16) [.int r1, .int (gc_I σ1 800 a1_1), va_rf (gc_R σ1 801 a1_1), va_rf (gc_R σ1 802 a1_1)] σ1 (gc_Pr (fun r16 σ16 => gc_G θ K (nX8_copy_2 (n + 1) c s) (gc_Pr P) 22 [(0, va_rf x0), (1, va_rf r16), (2, .int 0)] [] σ16 (bc - c16) (bs - s16)))))) : gc_G θ K (nX8_copy_2 (n + 1) c s) (gc_Pr P) 0 [(0, va_rf x0)] [] σ bc bs := by
  refine gx_aload_nq (r := x0) h 0 rfl dX8_copy_2_0 ?_
  obtain ⟨a1_1, e1_1, k⟩ := k
  refine gcc_X8_71 (r := x0)  h rfl ⟨Nat.le_refl _, Nat.le_refl _⟩ e1_1 k.1 (Nat.le_of_ble_eq_true rfl) dX8_copy_2_1 (vC_kind_mono k.2 ?_)
  rintro _ σ1 ⟨r1, rfl, k⟩
  refine ⟨r1, rfl, ?_⟩
  refine gx_aload_nq (r := x0) h 0 rfl dX8_copy_2_4 ?_
  refine gcg_X8_61 h rfl e1_1 k.1 dX8_copy_2_5 ?_
  replace k := k.2
  refine gx_aload_nq (r := x0) h 0 rfl dX8_copy_2_8 ?_
  refine gcg_X8_74 h rfl e1_1 k.1 dX8_copy_2_9 ?_
  replace k := k.2
  refine gx_aload_nq (r := x0) h 0 rfl dX8_copy_2_12 ?_
  refine gcg_X8_78 h rfl e1_1 k.1 dX8_copy_2_13 ?_
  replace k := k.2
  obtain ⟨c16, s16, hb16, k⟩ := k
  refine gcc_X8_81 (a0 := r1) (a1 := gc_I σ1 800 a1_1) (a2 := gc_R σ1 801 a1_1) (a3 := gc_R σ1 802 a1_1) h rfl ⟨Nat.le_refl _, Nat.le_refl _⟩ hb16 (Nat.le_of_ble_eq_true rfl) dX8_copy_2_16 (gx_C.mono k ?_)
  rintro _ σ16 ⟨r16, rfl, k⟩
  refine ⟨r16, rfl, ?_⟩
  refine gx_astore_nq (r := r16) (L' := [(1, va_rf r16), (0, va_rf x0)]) h (Nat.le_of_ble_eq_true rfl) (by generalize x0 = z; cases z <;> rfl) dX8_copy_2_19 ?_
  refine gx_iconst (v := 0) h dX8_copy_2_20 (by decide) ?_
  refine gx_istore_n (L' := [(2, .int 0), (1, va_rf r16), (0, va_rf x0)]) h (Nat.le_of_ble_eq_true rfl) (by generalize r16 = z; cases z <;> rfl) dX8_copy_2_21 ?_
  exact gx_sub [2, 1, 0] rfl k
theorem bc_X8_copy_2_22 {θ : gc_T} {K : gx_K} {P : Option Nat → gc_S → Prop} {σ : gc_S} {x2 : Int32} {x0 x1 : Option Nat} {n c s bc bs : Nat} (h : gc_K θ K (nX8_copy_2 (n + 1) c s)) (k : ∃ a24_1 : Nat, x0 = some a24_1 ∧ gc_isN σ a24_1 ∧ ∃ a27_2 : Nat, gc_R σ 804 a24_1 = some a27_2 ∧ gc_is σ a27_2 12 ∧ gx_C (gc_O θ) (nJ5_size n) (.ref a27_2 :: []) σ (gc_Pi (fun r27 σ27 => ((r27 ≤ x2 → P x1 σ27) ∧ (¬ r27 ≤ x2 → gc_isN σ27 a24_1 ∧ ∃ a39_3 : Nat, gc_R σ27 804 a24_1 = some a39_3 ∧ gc_is σ27 a39_3 12 ∧ gx_C (gc_O θ) (nJ5_get n) (.ref a39_3 :: [.int x2]) σ27 (gc_Pr (fun r39 σ39 => (∀ a, r39 = some a → gc_isN σ39 a) ∧ ∃ c45 s45 : Nat, (c45 ≤ bc ∧ s45 ≤ bs) ∧ gx_C (gc_O θ) (nX8_copy_2 n c45 s45) [va_rf r39] σ39 (gc_Pr (fun r45 σ45 => ∃ a48_4 : Nat, x1 = some a48_4 ∧ ∃ c48 s48 : Nat, (c48 ≤ (bc - c45) ∧ s48 ≤ (bs - s45)) ∧ gc_isN σ45 a48_4 ∧ vC_add θ n c48 s48 σ45 a48_4 [va_rf r45] (gc_Pv (fun σ48 => gc_G θ K (nX8_copy_2 (n + 1) c s) (gc_Pr P) 22 [(0, va_rf x0), (1, va_rf x1), (2, .int (x2 + 1))] [] σ48 ((bc - c45) - c48) ((bs - s45) - s48)))))))))))) : gc_G θ K (nX8_copy_2 (n + 1) c s) (gc_Pr P) 22 [(0, va_rf x0), (1, va_rf x1), (2, .int x2)] [] σ bc bs := by
  refine gx_iload_n h 2 rfl dX8_copy_2_22 ?_
  refine gx_aload_nq (r := x0) h 0 rfl dX8_copy_2_23 ?_
  obtain ⟨a24_1, e24_1, k⟩ := k
  refine gcg_X8_46 h rfl e24_1 k.1 dX8_copy_2_24 ?_
  replace k := k.2
  obtain ⟨a27_2, e27_2, k⟩ := k
  refine gcc_X8_50 (r := gc_R σ 804 a24_1)  h rfl ⟨Nat.le_refl _, Nat.le_refl _⟩ e27_2 k.1 (Nat.le_of_ble_eq_true rfl) dX8_copy_2_27 (gx_C.mono k.2 ?_)
  rintro _ σ27 ⟨r27, rfl, k⟩
  refine ⟨r27, rfl, ?_⟩
  refine gx_icmp_ge (tgt := 57) h (by decide) dX8_copy_2_30 (fun c => ?_) (fun c => ?_)
  · replace k := k.1 c
    refine gx_aload_nq (r := x1) h 1 rfl dX8_copy_2_57 ?_
    exact gx_aret (r := x1) h rfl (Or.inl ⟨_, rfl⟩) dX8_copy_2_58 (⟨_, rfl, k⟩)
  · replace k := k.2 c
    refine gx_aload_nq (r := x1) h 1 rfl dX8_copy_2_33 ?_
    refine gx_aload_nq (r := x0) h 0 rfl dX8_copy_2_34 ?_
    refine gcg_X8_46 h rfl e24_1 k.1 dX8_copy_2_35 ?_
    replace k := k.2
    refine gx_iload_n h 2 rfl dX8_copy_2_38 ?_
    obtain ⟨a39_3, e39_3, k⟩ := k
    refine gcc_X8_55 (r := gc_R σ27 804 a24_1) (a0 := x2) h rfl ⟨Nat.le_refl _, Nat.le_refl _⟩ e39_3 k.1 (by simp only [List.map_cons, List.map_nil, List.sum_cons, List.sum_nil, gx_cat]; exact Nat.le_of_ble_eq_true rfl) dX8_copy_2_39 (gx_C.mono k.2 ?_)
    rintro _ σ39 ⟨r39, rfl, k⟩
    refine ⟨r39, rfl, ?_⟩
    refine gc_castN (r := r39) h rfl q696 q1639 q1638 q1640 q1641 k.1 dX8_copy_2_42 ?_
    replace k := k.2
    obtain ⟨c45, s45, hb45, k⟩ := k
    refine gcc_X8_64 (a0 := r39) h rfl ⟨Nat.le_refl _, Nat.le_refl _⟩ hb45 (by simp only [List.map_cons, List.map_nil, List.sum_cons, List.sum_nil, gx_cat]; exact Nat.le_of_ble_eq_true rfl) dX8_copy_2_45 (gx_C.mono k ?_)
    rintro _ σ45 ⟨r45, rfl, k⟩
    refine ⟨r45, rfl, ?_⟩
    obtain ⟨a48_4, e48_4, k⟩ := k
    obtain ⟨c48, s48, hb48, k⟩ := k
    refine gcc_X8_85 (r := x1) (a0 := r45) h rfl ⟨Nat.le_refl _, Nat.le_refl _⟩ hb48 e48_4 k.1 (Nat.le_of_ble_eq_true rfl) dX8_copy_2_48 (vC_add_mono k.2 ?_)
    rintro _ σ48 ⟨rfl, k⟩
    refine ⟨rfl, ?_⟩
    refine gx_iinc (v := x2 + 1) (L' := [(2, .int (x2 + 1)), (0, va_rf x0), (1, va_rf x1)]) h 2 rfl rfl (Nat.le_of_ble_eq_true rfl) (by generalize x1 = z; cases z <;> rfl) dX8_copy_2_51 ?_
    refine gx_goto (tgt := 22) h (by decide) dX8_copy_2_54 ?_
    exact gx_sub [1, 2, 0] rfl k
/-! X8.find -/
theorem ec_X8_find {θ : gc_T} {P : Option Nat → gc_S → Prop} {σ : gc_S} {n : Nat} {a0 : Nat} {x1 : Int32} (body : ∀ K, gc_K θ K (nX8_find n) → gc_G θ K (nX8_find n) (gc_Pr P) 0 [(0, va_rf (some a0)), (1, .int x1)] [] σ 0 0) : gx_C (gc_O θ) (nX8_find n) [.ref a0, .int x1] σ (gc_Pr P) :=
  gx_C.intro (gc_z_warm θ) rfl (Nat.le_of_ble_eq_true rfl) body
theorem bc_X8_find_0 {θ : gc_T} {K : gx_K} {P : Option Nat → gc_S → Prop} {σ : gc_S} {x1 : Int32} {a0 n bc bs : Nat} (h : gc_K θ K (nX8_find n)) (k : gc_G θ K (nX8_find n) (gc_Pr P) 2 [(0, va_rf (some a0)), (1, .int x1), (2, .int 0)] [] σ bc bs) : gc_G θ K (nX8_find n) (gc_Pr P) 0 [(0, va_rf (some a0)), (1, .int x1)] [] σ bc bs := by
  refine gx_iconst (v := 0) h dX8_find_0 (by decide) ?_
  refine gx_istore_n (L' := [(2, .int 0), (0, va_rf (some a0)), (1, .int x1)]) h (Nat.le_of_ble_eq_true rfl) rfl dX8_find_1 ?_
  exact gx_sub [1, 2, 0] rfl k
theorem bc_X8_find_2 {θ : gc_T} {K : gx_K} {P : Option Nat → gc_S → Prop} {σ : gc_S} {x1 x2 : Int32} {a0 n bc bs : Nat} (h : gc_K θ K (nX8_find n)) (k : gc_is σ a0 7 ∧ (((gc_I σ 703 a0) ≤ x2 → P none σ) ∧ (¬ (gc_I σ 703 a0) ≤ x2 → gc_is σ a0 7 ∧ ∃ a15_1 : Nat, gc_R σ 701 a0 = some a15_1 ∧ gc_is σ a15_1 18 ∧ vp_in x2 (gc_n σ a15_1) ∧ ∃ a16_2 : Nat, gc_Q σ a15_1 x2.toNatClampNeg = some a16_2 ∧ gc_isN σ a16_2 ∧ (((gc_I σ 800 a16_2) = x1 → gc_is σ a0 7 ∧ gc_is σ a15_1 18 ∧ vp_in x2 (gc_n σ a15_1) ∧ P (gc_Q σ a15_1 x2.toNatClampNeg) σ) ∧ (¬ (gc_I σ 800 a16_2) = x1 → gc_G θ K (nX8_find n) (gc_Pr P) 2 [(0, va_rf (some a0)), (1, .int x1), (2, .int (x2 + 1))] [] σ bc bs))))) : gc_G θ K (nX8_find n) (gc_Pr P) 2 [(0, va_rf (some a0)), (1, .int x1), (2, .int x2)] [] σ bc bs := by
  refine gx_iload_n h 2 rfl dX8_find_2 ?_
  refine gx_aload_nq (r := some a0) h 0 rfl dX8_find_3 ?_
  refine gcg_X8_28 h rfl rfl k.1 dX8_find_4 ?_
  replace k := k.2
  refine gx_icmp_ge (tgt := 36) h (by decide) dX8_find_7 (fun c => ?_) (fun c => ?_)
  · replace k := k.1 c
    refine gx_null h dX8_find_36 ?_
    exact gx_aret (r := none) h rfl (Or.inl ⟨_, rfl⟩) dX8_find_37 (⟨_, rfl, k⟩)
  · replace k := k.2 c
    refine gx_aload_nq (r := some a0) h 0 rfl dX8_find_10 ?_
    refine gcg_X8_11 h rfl rfl k.1 dX8_find_11 ?_
    replace k := k.2
    refine gx_iload_n h 2 rfl dX8_find_14 ?_
    obtain ⟨a15_1, e15_1, k⟩ := k
    refine gc_aald18E (r := gc_R σ 701 a0) h e15_1 k.1 k.2.1 dX8_find_15 ?_
    replace k := k.2.2
    obtain ⟨a16_2, e16_2, k⟩ := k
    refine gcg_X8_61 h rfl e16_2 k.1 dX8_find_16 ?_
    replace k := k.2
    refine gx_iload_n h 1 rfl dX8_find_19 ?_
    refine gx_icmp_ne (tgt := 30) h (by decide) dX8_find_20 (fun c => ?_) (fun c => ?_)
    · replace k := k.2 c
      refine gx_iinc (v := x2 + 1) (L' := [(2, .int (x2 + 1)), (0, va_rf (some a0)), (1, .int x1)]) h 2 rfl rfl (Nat.le_of_ble_eq_true rfl) rfl dX8_find_30 ?_
      refine gx_goto (tgt := 2) h (by decide) dX8_find_33 ?_
      exact gx_sub [1, 2, 0] rfl k
    · replace k := k.1 c
      refine gx_aload_nq (r := some a0) h 0 rfl dX8_find_23 ?_
      refine gcg_X8_11 h rfl rfl k.1 dX8_find_24 ?_
      replace k := k.2
      refine gx_iload_n h 2 rfl dX8_find_27 ?_
      refine gc_aald18E (r := gc_R σ 701 a0) h e15_1 k.1 k.2.1 dX8_find_28 ?_
      replace k := k.2.2
      exact gx_aret (r := gc_Q σ a15_1 x2.toNatClampNeg) h rfl (Or.inl ⟨_, rfl⟩) dX8_find_29 (⟨_, rfl, k⟩)
/-! X9.init -/
theorem ec_X9_init {θ : gc_T} {P : gc_S → Prop} {σ : gc_S} {n c s : Nat} {a0 : Nat} {x1 : Int32} {x2 : Option Nat} {x3 : Option Nat} (body : ∀ K, gc_K θ K (nX9_init (n + 1) c s) → gc_G θ K (nX9_init (n + 1) c s) (gc_Pv P) 0 [(0, va_rf (some a0)), (1, .int x1), (2, va_rf x2), (3, va_rf x3)] [] σ c s) : gx_C (gc_O θ) (nX9_init (n + 1) c s) [.ref a0, .int x1, va_rf x2, va_rf x3] σ (gc_Pv P) := by
  refine gx_C.intro (gc_z_warm θ) rfl (by cases x2 <;>  cases x3 <;> exact Nat.le_of_ble_eq_true rfl) (fun K h => ?_)
  have k := body K h
  cases x2 <;>  cases x3 <;> exact k
theorem bc_X9_init_0 {θ : gc_T} {K : gx_K} {P : gc_S → Prop} {σ : gc_S} {x1 : Int32} {x2 x3 : Option Nat} {a0 n c s bc bs : Nat} (h : gc_K θ K (nX9_init (n + 1) c s)) (k : 1 ≤ bc ∧ 3 ≤ bs ∧ ∀ q5, q5 ∉ gc_d σ → gc_A θ q5 → ∀ σ5, σ5 = gc_new σ q5 12 0 → gx_C (gc_O θ) (nJ5_init n) (.ref q5 :: []) σ5 (gc_Pv (fun σ9 => gc_isN σ9 a0 ∧ ∀ σ12, σ12 = gc_sR σ9 804 a0 (some q5) → gc_isN σ12 a0 ∧ ∀ σ17, σ17 = gc_sI σ12 800 a0 x1 → gc_isN σ17 a0 ∧ ∀ σ22, σ22 = gc_sR σ17 801 a0 x2 → gc_isN σ22 a0 ∧ ∀ σ27, σ27 = gc_sR σ22 802 a0 x3 → P σ27))) : gc_G θ K (nX9_init (n + 1) c s) (gc_Pv P) 0 [(0, va_rf (some a0)), (1, .int x1), (2, va_rf x2), (3, va_rf x3)] [] σ bc bs := by
  refine gx_aload_nq (r := some a0) h 0 rfl dX9_init_0 ?_
  refine gcc_X9_1 (n := n) (r := some a0) h rfl ⟨Nat.le_refl _, Nat.le_refl _⟩ rfl (Nat.le_of_ble_eq_true rfl) dX9_init_1 ?_
  refine gx_aload_nq (r := some a0) h 0 rfl dX9_init_4 ?_
  refine gc_obj (k := 12) (C := RJ5) (T := TJ5) (N := 3) rfl (by decide) rfl in_J5 tyJ5_ok nd_J5 h rfl q497 q287 q78 dX9_init_5 k.1 k.2.1 (fun q5 hq hA => ?_)
  generalize hz : gc_new σ q5 12 0 = σ5
  replace k := k.2.2 q5 hq hA σ5 hz.symm
  refine gx_dup h rfl dX9_init_8 ?_
  refine gcc_X9_9 (r := some q5)  h rfl ⟨Nat.le_refl _, Nat.le_refl _⟩ rfl (Nat.le_of_ble_eq_true rfl) dX9_init_9 (gx_C.mono k ?_)
  rintro _ σ9 ⟨rfl, k⟩
  refine ⟨rfl, ?_⟩
  refine gcp_X9_10 (v := some q5) h rfl rfl rfl k.1 dX9_init_12 ?_
  generalize hz : gc_sR σ9 804 a0 (some q5) = σ12
  replace k := k.2 σ12 hz.symm
  refine gx_aload_nq (r := some a0) h 0 rfl dX9_init_15 ?_
  refine gx_iload_n h 1 rfl dX9_init_16 ?_
  refine gcp_X9_16 (v := x1) h rfl rfl k.1 dX9_init_17 ?_
  generalize hz : gc_sI σ12 800 a0 x1 = σ17
  replace k := k.2 σ17 hz.symm
  refine gx_aload_nq (r := some a0) h 0 rfl dX9_init_20 ?_
  refine gx_aload_nq (r := x2) h 2 rfl dX9_init_21 ?_
  refine gcp_X9_20 (v := x2) h rfl rfl k.1 dX9_init_22 ?_
  generalize hz : gc_sR σ17 801 a0 x2 = σ22
  replace k := k.2 σ22 hz.symm
  refine gx_aload_nq (r := some a0) h 0 rfl dX9_init_25 ?_
  refine gx_aload_nq (r := x3) h 3 rfl dX9_init_26 ?_
  refine gcp_X9_24 (v := x3) h rfl rfl k.1 dX9_init_27 ?_
  generalize hz : gc_sR σ22 802 a0 x3 = σ27
  replace k := k.2 σ27 hz.symm
  exact gx_vret h rfl dX9_init_30 (⟨rfl, k⟩)
/-! X9.add -/
theorem ec_X9_add {θ : gc_T} {P : gc_S → Prop} {σ : gc_S} {n c s : Nat} {a0 : Nat} {x1 : Option Nat} (body : ∀ K, gc_K θ K (nX9_add (n + 1) c s) → gc_G θ K (nX9_add (n + 1) c s) (gc_Pv P) 0 [(0, va_rf (some a0)), (1, va_rf x1)] [] σ c s) : gx_C (gc_O θ) (nX9_add (n + 1) c s) [.ref a0, va_rf x1] σ (gc_Pv P) := by
  refine gx_C.intro (gc_z_warm θ) rfl (by cases x1 <;> exact Nat.le_of_ble_eq_true rfl) (fun K h => ?_)
  have k := body K h
  cases x1 <;> exact k
theorem bc_X9_add_0 {θ : gc_T} {K : gx_K} {P : gc_S → Prop} {σ : gc_S} {x1 : Option Nat} {a0 n c s bc bs : Nat} (h : gc_K θ K (nX9_add (n + 1) c s)) (k : gc_isN σ a0 ∧ ∃ a5_1 : Nat, gc_R σ 804 a0 = some a5_1 ∧ ∃ c5 s5 : Nat, (c5 ≤ bc ∧ s5 ≤ bs) ∧ gc_is σ a5_1 12 ∧ gx_C (gc_O θ) (nJ5_add n c5 s5) (.ref a5_1 :: [va_rf x1]) σ (gc_Pi (fun r5 σ5 => ∃ a11_2 : Nat, x1 = some a11_2 ∧ gc_isN σ5 a11_2 ∧ ∀ σ11, σ11 = gc_sR σ5 803 a11_2 (some a0) → P σ11))) : gc_G θ K (nX9_add (n + 1) c s) (gc_Pv P) 0 [(0, va_rf (some a0)), (1, va_rf x1)] [] σ bc bs := by
  refine gx_aload_nq (r := some a0) h 0 rfl dX9_add_0 ?_
  refine gcg_X9_10 h rfl rfl k.1 dX9_add_1 ?_
  replace k := k.2
  refine gx_aload_nq (r := x1) h 1 rfl dX9_add_4 ?_
  obtain ⟨a5_1, e5_1, k⟩ := k
  obtain ⟨c5, s5, hb5, k⟩ := k
  refine gcc_X9_31 (r := gc_R σ 804 a0) (a0 := x1) h rfl ⟨Nat.le_refl _, Nat.le_refl _⟩ hb5 e5_1 k.1 (Nat.le_of_ble_eq_true rfl) dX9_add_5 (gx_C.mono k.2 ?_)
  rintro _ σ5 ⟨r5, rfl, k⟩
  refine ⟨r5, rfl, ?_⟩
  refine gx_pop h rfl dX9_add_8 ?_
  refine gx_aload_nq (r := x1) h 1 rfl dX9_add_9 ?_
  refine gx_aload_nq (r := some a0) h 0 rfl dX9_add_10 ?_
  obtain ⟨a11_2, e11_2, k⟩ := k
  refine gcp_X9_35 (v := some a0) h rfl e11_2 k.1 dX9_add_11 ?_
  generalize hz : gc_sR σ5 803 a11_2 (some a0) = σ11
  replace k := k.2 σ11 hz.symm
  exact gx_vret h rfl dX9_add_14 (⟨rfl, k⟩)
/-! X9.clashes -/
theorem ec_X9_clashes {θ : gc_T} {P : Int32 → gc_S → Prop} {σ : gc_S} {n : Nat} {a0 : Nat} (body : ∀ K, gc_K θ K (nX9_clashes n) → gc_G θ K (nX9_clashes n) (gc_Pi P) 0 [(0, va_rf (some a0))] [] σ 0 0) : gx_C (gc_O θ) (nX9_clashes n) [.ref a0] σ (gc_Pi P) :=
  gx_C.intro (gc_z_warm θ) rfl (Nat.le_of_ble_eq_true rfl) body
theorem bc_X9_clashes_0 {θ : gc_T} {K : gx_K} {P : Int32 → gc_S → Prop} {σ : gc_S} {a0 n bc bs : Nat} (h : gc_K θ K (nX9_clashes n)) (k : P 0 σ) : gc_G θ K (nX9_clashes n) (gc_Pi P) 0 [(0, va_rf (some a0))] [] σ bc bs := by
  refine gx_iconst (v := 0) h dX9_clashes_0 (by decide) ?_
  exact gx_zret h rfl rfl dX9_clashes_1 (⟨_, rfl, k⟩)
/-! X9.bears -/
theorem ec_X9_bears {θ : gc_T} {P : Int32 → gc_S → Prop} {σ : gc_S} {n : Nat} {a0 : Nat} (body : ∀ K, gc_K θ K (nX9_bears n) → gc_G θ K (nX9_bears n) (gc_Pi P) 0 [(0, va_rf (some a0))] [] σ 0 0) : gx_C (gc_O θ) (nX9_bears n) [.ref a0] σ (gc_Pi P) :=
  gx_C.intro (gc_z_warm θ) rfl (Nat.le_of_ble_eq_true rfl) body
theorem bc_X9_bears_0 {θ : gc_T} {K : gx_K} {P : Int32 → gc_S → Prop} {σ : gc_S} {a0 n bc bs : Nat} (h : gc_K θ K (nX9_bears n)) (k : P 1 σ) : gc_G θ K (nX9_bears n) (gc_Pi P) 0 [(0, va_rf (some a0))] [] σ bc bs := by
  refine gx_iconst (v := 1) h dX9_bears_0 (by decide) ?_
  exact gx_zret h rfl rfl dX9_bears_1 (⟨_, rfl, k⟩)
/-! X9.add_2 -/
theorem ec_X9_add_2 {θ : gc_T} {P : gc_S → Prop} {σ : gc_S} {n c s : Nat} {a0 : Nat} {x1 : Int32} {x2 : Option Nat} (body : ∀ K, gc_K θ K (nX9_add_2 (n + 1) c s) → gc_G θ K (nX9_add_2 (n + 1) c s) (gc_Pv P) 0 [(0, va_rf (some a0)), (1, .int x1), (2, va_rf x2)] [] σ c s) : gx_C (gc_O θ) (nX9_add_2 (n + 1) c s) [.ref a0, .int x1, va_rf x2] σ (gc_Pv P) := by
  refine gx_C.intro (gc_z_warm θ) rfl (by cases x2 <;> exact Nat.le_of_ble_eq_true rfl) (fun K h => ?_)
  have k := body K h
  cases x2 <;> exact k
theorem bc_X9_add_2_0 {θ : gc_T} {K : gx_K} {P : gc_S → Prop} {σ : gc_S} {x1 : Int32} {x2 : Option Nat} {a0 n c s bc bs : Nat} (h : gc_K θ K (nX9_add_2 (n + 1) c s)) (k : gc_isN σ a0 ∧ ∃ a6_1 : Nat, gc_R σ 804 a0 = some a6_1 ∧ ∃ c6 s6 : Nat, (c6 ≤ bc ∧ s6 ≤ bs) ∧ gc_is σ a6_1 12 ∧ gx_C (gc_O θ) (nJ5_add_3 n c6 s6) (.ref a6_1 :: [.int x1, va_rf x2]) σ (gc_Pv (fun σ6 => ∃ a11_2 : Nat, x2 = some a11_2 ∧ gc_isN σ6 a11_2 ∧ ∀ σ11, σ11 = gc_sR σ6 803 a11_2 (some a0) → P σ11))) : gc_G θ K (nX9_add_2 (n + 1) c s) (gc_Pv P) 0 [(0, va_rf (some a0)), (1, .int x1), (2, va_rf x2)] [] σ bc bs := by
  refine gx_aload_nq (r := some a0) h 0 rfl dX9_add_2_0 ?_
  refine gcg_X9_10 h rfl rfl k.1 dX9_add_2_1 ?_
  replace k := k.2
  refine gx_iload_n h 1 rfl dX9_add_2_4 ?_
  refine gx_aload_nq (r := x2) h 2 rfl dX9_add_2_5 ?_
  obtain ⟨a6_1, e6_1, k⟩ := k
  obtain ⟨c6, s6, hb6, k⟩ := k
  refine gcc_X9_39 (r := gc_R σ 804 a0) (a0 := x1) (a1 := x2) h rfl ⟨Nat.le_refl _, Nat.le_refl _⟩ hb6 e6_1 k.1 (Nat.le_of_ble_eq_true rfl) dX9_add_2_6 (gx_C.mono k.2 ?_)
  rintro _ σ6 ⟨rfl, k⟩
  refine ⟨rfl, ?_⟩
  refine gx_aload_nq (r := x2) h 2 rfl dX9_add_2_9 ?_
  refine gx_aload_nq (r := some a0) h 0 rfl dX9_add_2_10 ?_
  obtain ⟨a11_2, e11_2, k⟩ := k
  refine gcp_X9_35 (v := some a0) h rfl e11_2 k.1 dX9_add_2_11 ?_
  generalize hz : gc_sR σ6 803 a11_2 (some a0) = σ11
  replace k := k.2 σ11 hz.symm
  exact gx_vret h rfl dX9_add_2_14 (⟨rfl, k⟩)
/-! X9.fits -/
theorem ec_X9_fits {θ : gc_T} {P : Int32 → gc_S → Prop} {σ : gc_S} {n : Nat} {a0 : Nat} {x1 : Option Nat} (body : ∀ K, gc_K θ K (nX9_fits (n + 1)) → gc_G θ K (nX9_fits (n + 1)) (gc_Pi P) 0 [(0, va_rf (some a0)), (1, va_rf x1)] [] σ 0 0) : gx_C (gc_O θ) (nX9_fits (n + 1)) [.ref a0, va_rf x1] σ (gc_Pi P) := by
  refine gx_C.intro (gc_z_warm θ) rfl (by cases x1 <;> exact Nat.le_of_ble_eq_true rfl) (fun K h => ?_)
  have k := body K h
  cases x1 <;> exact k
theorem bc_X9_fits_0 {θ : gc_T} {K : gx_K} {P : Int32 → gc_S → Prop} {σ : gc_S} {x1 : Option Nat} {a0 n bc bs : Nat} (h : gc_K θ K (nX9_fits (n + 1))) (k : gc_isN σ a0 ∧ vC_kind θ n σ a0 [] (gc_Pi (fun r1 σ1 => ∃ a5_1 : Nat, x1 = some a5_1 ∧ gc_isN σ1 a5_1 ∧ vC_kind θ n σ1 a5_1 [] (gc_Pi (fun r5 σ5 => ((r1 = r5 → P 1 σ5) ∧ (¬ r1 = r5 → P 0 σ5))))))) : gc_G θ K (nX9_fits (n + 1)) (gc_Pi P) 0 [(0, va_rf (some a0)), (1, va_rf x1)] [] σ bc bs := by
  refine gx_aload_nq (r := some a0) h 0 rfl dX9_fits_0 ?_
  refine gcc_X9_27 (r := some a0)  h rfl ⟨Nat.le_refl _, Nat.le_refl _⟩ rfl k.1 (Nat.le_of_ble_eq_true rfl) dX9_fits_1 (vC_kind_mono k.2 ?_)
  rintro _ σ1 ⟨r1, rfl, k⟩
  refine ⟨r1, rfl, ?_⟩
  refine gx_aload_nq (r := x1) h 1 rfl dX9_fits_4 ?_
  obtain ⟨a5_1, e5_1, k⟩ := k
  refine gcc_X9_27 (r := x1)  h rfl ⟨Nat.le_refl _, Nat.le_refl _⟩ e5_1 k.1 (Nat.le_of_ble_eq_true rfl) dX9_fits_5 (vC_kind_mono k.2 ?_)
  rintro _ σ5 ⟨r5, rfl, k⟩
  refine ⟨r5, rfl, ?_⟩
  refine gx_icmp_ne (tgt := 15) h (by decide) dX9_fits_8 (fun c => ?_) (fun c => ?_)
  · replace k := k.2 c
    refine gx_iconst (v := 0) h dX9_fits_15 (by decide) ?_
    exact gx_zret h rfl rfl dX9_fits_16 (⟨_, rfl, k⟩)
  · replace k := k.1 c
    refine gx_iconst (v := 1) h dX9_fits_11 (by decide) ?_
    refine gx_goto (tgt := 16) h (by decide) dX9_fits_12 ?_
    exact gx_zret h rfl rfl dX9_fits_16 (⟨_, rfl, k⟩)
/-! X9.isOrdered -/
theorem ec_X9_isOrdered {θ : gc_T} {P : Int32 → gc_S → Prop} {σ : gc_S} {n : Nat} {a0 : Nat} (body : ∀ K, gc_K θ K (nX9_isOrdered n) → gc_G θ K (nX9_isOrdered n) (gc_Pi P) 0 [(0, va_rf (some a0))] [] σ 0 0) : gx_C (gc_O θ) (nX9_isOrdered n) [.ref a0] σ (gc_Pi P) :=
  gx_C.intro (gc_z_warm θ) rfl (Nat.le_of_ble_eq_true rfl) body
theorem bc_X9_isOrdered_0 {θ : gc_T} {K : gx_K} {P : Int32 → gc_S → Prop} {σ : gc_S} {a0 n bc bs : Nat} (h : gc_K θ K (nX9_isOrdered n)) (k : P 1 σ) : gc_G θ K (nX9_isOrdered n) (gc_Pi P) 0 [(0, va_rf (some a0))] [] σ bc bs := by
  refine gx_iconst (v := 1) h dX9_isOrdered_0 (by decide) ?_
  exact gx_zret h rfl rfl dX9_isOrdered_1 (⟨_, rfl, k⟩)
/-! X10.init -/
theorem ec_X10_init {θ : gc_T} {P : gc_S → Prop} {σ : gc_S} {n c s : Nat} {a0 : Nat} {x1 : Int32} {x2 : Option Nat} {x3 : Option Nat} (body : ∀ K, gc_K θ K (nX10_init (n + 1) c s) → gc_G θ K (nX10_init (n + 1) c s) (gc_Pv P) 0 [(0, va_rf (some a0)), (1, .int x1), (2, va_rf x2), (3, va_rf x3)] [] σ c s) : gx_C (gc_O θ) (nX10_init (n + 1) c s) [.ref a0, .int x1, va_rf x2, va_rf x3] σ (gc_Pv P) := by
  refine gx_C.intro (gc_z_warm θ) rfl (by cases x2 <;>  cases x3 <;> exact Nat.le_of_ble_eq_true rfl) (fun K h => ?_)
  have k := body K h
  cases x2 <;>  cases x3 <;> exact k
theorem bc_X10_init_0 {θ : gc_T} {K : gx_K} {P : gc_S → Prop} {σ : gc_S} {x1 : Int32} {x2 x3 : Option Nat} {a0 n c s bc bs : Nat} (h : gc_K θ K (nX10_init (n + 1) c s)) (k : ∃ c4 s4 : Nat, (c4 ≤ bc ∧ s4 ≤ bs) ∧ gx_C (gc_O θ) (nX9_init n c4 s4) (.ref a0 :: [.int x1, va_rf x2, va_rf x3]) σ (gc_Pv (fun σ4 => P σ4))) : gc_G θ K (nX10_init (n + 1) c s) (gc_Pv P) 0 [(0, va_rf (some a0)), (1, .int x1), (2, va_rf x2), (3, va_rf x3)] [] σ bc bs := by
  refine gx_aload_nq (r := some a0) h 0 rfl dX10_init_0 ?_
  refine gx_iload_n h 1 rfl dX10_init_1 ?_
  refine gx_aload_nq (r := x2) h 2 rfl dX10_init_2 ?_
  refine gx_aload_nq (r := x3) h 3 rfl dX10_init_3 ?_
  obtain ⟨c4, s4, hb4, k⟩ := k
  refine gcc_X10_1 (r := some a0) (a0 := x1) (a1 := x2) (a2 := x3) h rfl ⟨Nat.le_refl _, Nat.le_refl _⟩ hb4 rfl (Nat.le_of_ble_eq_true rfl) dX10_init_4 (gx_C.mono k ?_)
  rintro _ σ4 ⟨rfl, k⟩
  refine ⟨rfl, ?_⟩
  exact gx_vret h rfl dX10_init_7 (⟨rfl, k⟩)
/-! X10.open -/
theorem ec_X10_open {θ : gc_T} {P : gc_S → Prop} {σ : gc_S} {n : Nat} {a0 : Nat} {x1 : Option Nat} (body : ∀ K, gc_K θ K (nX10_open (n + 1)) → gc_G θ K (nX10_open (n + 1)) (gc_Pv P) 0 [(0, va_rf (some a0)), (1, va_rf x1)] [] σ 0 0) : gx_C (gc_O θ) (nX10_open (n + 1)) [.ref a0, va_rf x1] σ (gc_Pv P) := by
  refine gx_C.intro (gc_z_warm θ) rfl (by cases x1 <;> exact Nat.le_of_ble_eq_true rfl) (fun K h => ?_)
  have k := body K h
  cases x1 <;> exact k
theorem bc_X10_open_0 {θ : gc_T} {K : gx_K} {P : gc_S → Prop} {σ : gc_S} {x1 : Option Nat} {a0 n bc bs : Nat} (h : gc_K θ K (nX10_open (n + 1))) (k : (a0 ∈ gc_d σ ∧ (gc_k σ a0 = 8 ∨ gc_k σ a0 = 9 ∨ gc_k σ a0 = 10)) ∧ ∃ a4_1 : Nat, gc_R σ 804 a0 = some a4_1 ∧ gc_is σ a4_1 12 ∧ gx_C (gc_O θ) (nJ5_size n) (.ref a4_1 :: []) σ (gc_Pi (fun r4 σ4 => ((r4 ≤ 0 → gc_G θ K (nX10_open (n + 1)) (gc_Pv P) 16 [] [] σ4 bc bs) ∧ (¬ r4 ≤ 0 → ∃ a13_2 : Nat, x1 = some a13_2 ∧ gc_is σ4 a13_2 3 ∧ gx_C (gc_O θ) (nX3_say_2 n) (.ref a13_2 :: [.int 40]) σ4 (gc_Pv (fun σ13 => gc_G θ K (nX10_open (n + 1)) (gc_Pv P) 16 [] [] σ13 bc bs))))))) : gc_G θ K (nX10_open (n + 1)) (gc_Pv P) 0 [(0, va_rf (some a0)), (1, va_rf x1)] [] σ bc bs := by
  refine gx_aload_nq (r := some a0) h 0 rfl dX10_open_0 ?_
  refine gcg_X10_7 h rfl rfl k.1 dX10_open_1 ?_
  replace k := k.2
  obtain ⟨a4_1, e4_1, k⟩ := k
  refine gcc_X10_13 (r := gc_R σ 804 a0)  h rfl ⟨Nat.le_refl _, Nat.le_refl _⟩ e4_1 k.1 (Nat.le_of_ble_eq_true rfl) dX10_open_4 (gx_C.mono k.2 ?_)
  rintro _ σ4 ⟨r4, rfl, k⟩
  refine ⟨r4, rfl, ?_⟩
  refine gx_if_le (tgt := 16) h (by decide) dX10_open_7 (fun c => ?_) (fun c => ?_)
  · replace k := k.1 c
    exact gx_sub [] rfl k
  · replace k := k.2 c
    refine gx_aload_nq (r := x1) h 1 rfl dX10_open_10 ?_
    refine gx_bipush (v := 40) h dX10_open_11 (by decide) ?_
    obtain ⟨a13_2, e13_2, k⟩ := k
    refine gcc_X10_19 (r := x1) (a0 := 40) h rfl ⟨Nat.le_refl _, Nat.le_refl _⟩ e13_2 k.1 (Nat.le_of_ble_eq_true rfl) dX10_open_13 (gx_C.mono k.2 ?_)
    rintro _ σ13 ⟨rfl, k⟩
    refine ⟨rfl, ?_⟩
    exact gx_sub [] rfl k
theorem bc_X10_open_16 {θ : gc_T} {K : gx_K} {P : gc_S → Prop} {σ : gc_S} {n bc bs : Nat} (h : gc_K θ K (nX10_open (n + 1))) (k : P σ) : gc_G θ K (nX10_open (n + 1)) (gc_Pv P) 16 [] [] σ bc bs := by
  exact gx_vret h rfl dX10_open_16 (⟨rfl, k⟩)
/-! X10.close -/
theorem ec_X10_close {θ : gc_T} {P : gc_S → Prop} {σ : gc_S} {n : Nat} {a0 : Nat} {x1 : Option Nat} (body : ∀ K, gc_K θ K (nX10_close (n + 1)) → gc_G θ K (nX10_close (n + 1)) (gc_Pv P) 0 [(0, va_rf (some a0)), (1, va_rf x1)] [] σ 0 0) : gx_C (gc_O θ) (nX10_close (n + 1)) [.ref a0, va_rf x1] σ (gc_Pv P) := by
  refine gx_C.intro (gc_z_warm θ) rfl (by cases x1 <;> exact Nat.le_of_ble_eq_true rfl) (fun K h => ?_)
  have k := body K h
  cases x1 <;> exact k
theorem bc_X10_close_0 {θ : gc_T} {K : gx_K} {P : gc_S → Prop} {σ : gc_S} {x1 : Option Nat} {a0 n bc bs : Nat} (h : gc_K θ K (nX10_close (n + 1))) (k : (a0 ∈ gc_d σ ∧ (gc_k σ a0 = 8 ∨ gc_k σ a0 = 9 ∨ gc_k σ a0 = 10)) ∧ ∃ a4_1 : Nat, gc_R σ 804 a0 = some a4_1 ∧ gc_is σ a4_1 12 ∧ gx_C (gc_O θ) (nJ5_size n) (.ref a4_1 :: []) σ (gc_Pi (fun r4 σ4 => ((r4 ≤ 0 → gc_G θ K (nX10_close (n + 1)) (gc_Pv P) 16 [] [] σ4 bc bs) ∧ (¬ r4 ≤ 0 → ∃ a13_2 : Nat, x1 = some a13_2 ∧ gc_is σ4 a13_2 3 ∧ gx_C (gc_O θ) (nX3_say_2 n) (.ref a13_2 :: [.int 41]) σ4 (gc_Pv (fun σ13 => gc_G θ K (nX10_close (n + 1)) (gc_Pv P) 16 [] [] σ13 bc bs))))))) : gc_G θ K (nX10_close (n + 1)) (gc_Pv P) 0 [(0, va_rf (some a0)), (1, va_rf x1)] [] σ bc bs := by
  refine gx_aload_nq (r := some a0) h 0 rfl dX10_close_0 ?_
  refine gcg_X10_7 h rfl rfl k.1 dX10_close_1 ?_
  replace k := k.2
  obtain ⟨a4_1, e4_1, k⟩ := k
  refine gcc_X10_13 (r := gc_R σ 804 a0)  h rfl ⟨Nat.le_refl _, Nat.le_refl _⟩ e4_1 k.1 (Nat.le_of_ble_eq_true rfl) dX10_close_4 (gx_C.mono k.2 ?_)
  rintro _ σ4 ⟨r4, rfl, k⟩
  refine ⟨r4, rfl, ?_⟩
  refine gx_if_le (tgt := 16) h (by decide) dX10_close_7 (fun c => ?_) (fun c => ?_)
  · replace k := k.1 c
    exact gx_sub [] rfl k
  · replace k := k.2 c
    refine gx_aload_nq (r := x1) h 1 rfl dX10_close_10 ?_
    refine gx_bipush (v := 41) h dX10_close_11 (by decide) ?_
    obtain ⟨a13_2, e13_2, k⟩ := k
    refine gcc_X10_19 (r := x1) (a0 := 41) h rfl ⟨Nat.le_refl _, Nat.le_refl _⟩ e13_2 k.1 (Nat.le_of_ble_eq_true rfl) dX10_close_13 (gx_C.mono k.2 ?_)
    rintro _ σ13 ⟨rfl, k⟩
    refine ⟨rfl, ?_⟩
    exact gx_sub [] rfl k
theorem bc_X10_close_16 {θ : gc_T} {K : gx_K} {P : gc_S → Prop} {σ : gc_S} {n bc bs : Nat} (h : gc_K θ K (nX10_close (n + 1))) (k : P σ) : gc_G θ K (nX10_close (n + 1)) (gc_Pv P) 16 [] [] σ bc bs := by
  exact gx_vret h rfl dX10_close_16 (⟨rfl, k⟩)
/-! X10.kind -/
theorem ec_X10_kind {θ : gc_T} {P : Int32 → gc_S → Prop} {σ : gc_S} {n : Nat} {a0 : Nat} (body : ∀ K, gc_K θ K (nX10_kind n) → gc_G θ K (nX10_kind n) (gc_Pi P) 0 [(0, va_rf (some a0))] [] σ 0 0) : gx_C (gc_O θ) (nX10_kind n) [.ref a0] σ (gc_Pi P) :=
  gx_C.intro (gc_z_warm θ) rfl (Nat.le_of_ble_eq_true rfl) body
theorem bc_X10_kind_0 {θ : gc_T} {K : gx_K} {P : Int32 → gc_S → Prop} {σ : gc_S} {a0 n bc bs : Nat} (h : gc_K θ K (nX10_kind n)) (k : P 0 σ) : gc_G θ K (nX10_kind n) (gc_Pi P) 0 [(0, va_rf (some a0))] [] σ bc bs := by
  refine gx_iconst (v := 0) h dX10_kind_0 (by decide) ?_
  exact gx_iret h rfl dX10_kind_1 (⟨_, rfl, k⟩)
/-! X11.init -/
theorem ec_X11_init {θ : gc_T} {P : gc_S → Prop} {σ : gc_S} {n c s : Nat} {a0 : Nat} {x1 : Int32} {x2 : Option Nat} {x3 : Option Nat} (body : ∀ K, gc_K θ K (nX11_init (n + 1) c s) → gc_G θ K (nX11_init (n + 1) c s) (gc_Pv P) 0 [(0, va_rf (some a0)), (1, .int x1), (2, va_rf x2), (3, va_rf x3)] [] σ c s) : gx_C (gc_O θ) (nX11_init (n + 1) c s) [.ref a0, .int x1, va_rf x2, va_rf x3] σ (gc_Pv P) := by
  refine gx_C.intro (gc_z_warm θ) rfl (by cases x2 <;>  cases x3 <;> exact Nat.le_of_ble_eq_true rfl) (fun K h => ?_)
  have k := body K h
  cases x2 <;>  cases x3 <;> exact k
theorem bc_X11_init_0 {θ : gc_T} {K : gx_K} {P : gc_S → Prop} {σ : gc_S} {x1 : Int32} {x2 x3 : Option Nat} {a0 n c s bc bs : Nat} (h : gc_K θ K (nX11_init (n + 1) c s)) (k : ∃ c4 s4 : Nat, (c4 ≤ bc ∧ s4 ≤ bs) ∧ gx_C (gc_O θ) (nX10_init n c4 s4) (.ref a0 :: [.int x1, va_rf x2, va_rf x3]) σ (gc_Pv (fun σ4 => P σ4))) : gc_G θ K (nX11_init (n + 1) c s) (gc_Pv P) 0 [(0, va_rf (some a0)), (1, .int x1), (2, va_rf x2), (3, va_rf x3)] [] σ bc bs := by
  refine gx_aload_nq (r := some a0) h 0 rfl dX11_init_0 ?_
  refine gx_iload_n h 1 rfl dX11_init_1 ?_
  refine gx_aload_nq (r := x2) h 2 rfl dX11_init_2 ?_
  refine gx_aload_nq (r := x3) h 3 rfl dX11_init_3 ?_
  obtain ⟨c4, s4, hb4, k⟩ := k
  refine gcc_X11_1 (r := some a0) (a0 := x1) (a1 := x2) (a2 := x3) h rfl ⟨Nat.le_refl _, Nat.le_refl _⟩ hb4 rfl (Nat.le_of_ble_eq_true rfl) dX11_init_4 (gx_C.mono k ?_)
  rintro _ σ4 ⟨rfl, k⟩
  refine ⟨rfl, ?_⟩
  exact gx_vret h rfl dX11_init_7 (⟨rfl, k⟩)
/-! X11.open -/
theorem ec_X11_open {θ : gc_T} {P : gc_S → Prop} {σ : gc_S} {n : Nat} {a0 : Nat} {x1 : Option Nat} (body : ∀ K, gc_K θ K (nX11_open (n + 1)) → gc_G θ K (nX11_open (n + 1)) (gc_Pv P) 0 [(0, va_rf (some a0)), (1, va_rf x1)] [] σ 0 0) : gx_C (gc_O θ) (nX11_open (n + 1)) [.ref a0, va_rf x1] σ (gc_Pv P) := by
  refine gx_C.intro (gc_z_warm θ) rfl (by cases x1 <;> exact Nat.le_of_ble_eq_true rfl) (fun K h => ?_)
  have k := body K h
  cases x1 <;> exact k
theorem bc_X11_open_0 {θ : gc_T} {K : gx_K} {P : gc_S → Prop} {σ : gc_S} {x1 : Option Nat} {a0 n bc bs : Nat} (h : gc_K θ K (nX11_open (n + 1))) (k : ∃ a3_1 : Nat, x1 = some a3_1 ∧ gc_is σ a3_1 3 ∧ gx_C (gc_O θ) (nX3_say_2 n) (.ref a3_1 :: [.int 123]) σ (gc_Pv (fun σ3 => P σ3))) : gc_G θ K (nX11_open (n + 1)) (gc_Pv P) 0 [(0, va_rf (some a0)), (1, va_rf x1)] [] σ bc bs := by
  refine gx_aload_nq (r := x1) h 1 rfl dX11_open_0 ?_
  refine gx_bipush (v := 123) h dX11_open_1 (by decide) ?_
  obtain ⟨a3_1, e3_1, k⟩ := k
  refine gcc_X11_11 (r := x1) (a0 := 123) h rfl ⟨Nat.le_refl _, Nat.le_refl _⟩ e3_1 k.1 (Nat.le_of_ble_eq_true rfl) dX11_open_3 (gx_C.mono k.2 ?_)
  rintro _ σ3 ⟨rfl, k⟩
  refine ⟨rfl, ?_⟩
  exact gx_vret h rfl dX11_open_6 (⟨rfl, k⟩)
/-! X11.close -/
theorem ec_X11_close {θ : gc_T} {P : gc_S → Prop} {σ : gc_S} {n : Nat} {a0 : Nat} {x1 : Option Nat} (body : ∀ K, gc_K θ K (nX11_close (n + 1)) → gc_G θ K (nX11_close (n + 1)) (gc_Pv P) 0 [(0, va_rf (some a0)), (1, va_rf x1)] [] σ 0 0) : gx_C (gc_O θ) (nX11_close (n + 1)) [.ref a0, va_rf x1] σ (gc_Pv P) := by
  refine gx_C.intro (gc_z_warm θ) rfl (by cases x1 <;> exact Nat.le_of_ble_eq_true rfl) (fun K h => ?_)
  have k := body K h
  cases x1 <;> exact k
theorem bc_X11_close_0 {θ : gc_T} {K : gx_K} {P : gc_S → Prop} {σ : gc_S} {x1 : Option Nat} {a0 n bc bs : Nat} (h : gc_K θ K (nX11_close (n + 1))) (k : ∃ a3_1 : Nat, x1 = some a3_1 ∧ gc_is σ a3_1 3 ∧ gx_C (gc_O θ) (nX3_say_2 n) (.ref a3_1 :: [.int 125]) σ (gc_Pv (fun σ3 => P σ3))) : gc_G θ K (nX11_close (n + 1)) (gc_Pv P) 0 [(0, va_rf (some a0)), (1, va_rf x1)] [] σ bc bs := by
  refine gx_aload_nq (r := x1) h 1 rfl dX11_close_0 ?_
  refine gx_bipush (v := 125) h dX11_close_1 (by decide) ?_
  obtain ⟨a3_1, e3_1, k⟩ := k
  refine gcc_X11_11 (r := x1) (a0 := 125) h rfl ⟨Nat.le_refl _, Nat.le_refl _⟩ e3_1 k.1 (Nat.le_of_ble_eq_true rfl) dX11_close_3 (gx_C.mono k.2 ?_)
  rintro _ σ3 ⟨rfl, k⟩
  refine ⟨rfl, ?_⟩
  exact gx_vret h rfl dX11_close_6 (⟨rfl, k⟩)
/-! X11.kind -/
theorem ec_X11_kind {θ : gc_T} {P : Int32 → gc_S → Prop} {σ : gc_S} {n : Nat} {a0 : Nat} (body : ∀ K, gc_K θ K (nX11_kind (n + 1)) → gc_G θ K (nX11_kind (n + 1)) (gc_Pi P) 0 [(0, va_rf (some a0))] [] σ 0 0) : gx_C (gc_O θ) (nX11_kind (n + 1)) [.ref a0] σ (gc_Pi P) :=
  gx_C.intro (gc_z_warm θ) rfl (Nat.le_of_ble_eq_true rfl) body
theorem bc_X11_kind_0 {θ : gc_T} {K : gx_K} {P : Int32 → gc_S → Prop} {σ : gc_S} {a0 n bc bs : Nat} (h : gc_K θ K (nX11_kind (n + 1))) (k : (a0 ∈ gc_d σ ∧ (gc_k σ a0 = 9 ∨ gc_k σ a0 = 10)) ∧ gx_C (gc_O θ) (nX10_kind n) (.ref a0 :: []) σ (gc_Pi (fun r2 σ2 => P (1 + r2) σ2))) : gc_G θ K (nX11_kind (n + 1)) (gc_Pi P) 0 [(0, va_rf (some a0))] [] σ bc bs := by
  refine gx_iconst (v := 1) h dX11_kind_0 (by decide) ?_
  refine gx_aload_nq (r := some a0) h 0 rfl dX11_kind_1 ?_
  refine gcc_X11_7 (r := some a0)  h rfl ⟨Nat.le_refl _, Nat.le_refl _⟩ rfl k.1 (Nat.le_of_ble_eq_true rfl) dX11_kind_2 (gx_C.mono k.2 ?_)
  rintro _ σ2 ⟨r2, rfl, k⟩
  refine ⟨r2, rfl, ?_⟩
  refine gx_iadd h dX11_kind_5 ?_
  exact gx_iret h rfl dX11_kind_6 (⟨_, rfl, k⟩)
/-! X11.isOrdered -/
theorem ec_X11_isOrdered {θ : gc_T} {P : Int32 → gc_S → Prop} {σ : gc_S} {n : Nat} {a0 : Nat} (body : ∀ K, gc_K θ K (nX11_isOrdered n) → gc_G θ K (nX11_isOrdered n) (gc_Pi P) 0 [(0, va_rf (some a0))] [] σ 0 0) : gx_C (gc_O θ) (nX11_isOrdered n) [.ref a0] σ (gc_Pi P) :=
  gx_C.intro (gc_z_warm θ) rfl (Nat.le_of_ble_eq_true rfl) body
theorem bc_X11_isOrdered_0 {θ : gc_T} {K : gx_K} {P : Int32 → gc_S → Prop} {σ : gc_S} {a0 n bc bs : Nat} (h : gc_K θ K (nX11_isOrdered n)) (k : P 0 σ) : gc_G θ K (nX11_isOrdered n) (gc_Pi P) 0 [(0, va_rf (some a0))] [] σ bc bs := by
  refine gx_iconst (v := 0) h dX11_isOrdered_0 (by decide) ?_
  exact gx_zret h rfl rfl dX11_isOrdered_1 (⟨_, rfl, k⟩)
/-! X12.init -/
theorem ec_X12_init {θ : gc_T} {P : gc_S → Prop} {σ : gc_S} {n c s : Nat} {a0 : Nat} {x1 : Int32} {x2 : Option Nat} {x3 : Option Nat} (body : ∀ K, gc_K θ K (nX12_init (n + 1) c s) → gc_G θ K (nX12_init (n + 1) c s) (gc_Pv P) 0 [(0, va_rf (some a0)), (1, .int x1), (2, va_rf x2), (3, va_rf x3)] [] σ c s) : gx_C (gc_O θ) (nX12_init (n + 1) c s) [.ref a0, .int x1, va_rf x2, va_rf x3] σ (gc_Pv P) := by
  refine gx_C.intro (gc_z_warm θ) rfl (by cases x2 <;>  cases x3 <;> exact Nat.le_of_ble_eq_true rfl) (fun K h => ?_)
  have k := body K h
  cases x2 <;>  cases x3 <;> exact k
theorem bc_X12_init_0 {θ : gc_T} {K : gx_K} {P : gc_S → Prop} {σ : gc_S} {x1 : Int32} {x2 x3 : Option Nat} {a0 n c s bc bs : Nat} (h : gc_K θ K (nX12_init (n + 1) c s)) (k : ∃ c4 s4 : Nat, (c4 ≤ bc ∧ s4 ≤ bs) ∧ gx_C (gc_O θ) (nX11_init n c4 s4) (.ref a0 :: [.int x1, va_rf x2, va_rf x3]) σ (gc_Pv (fun σ4 => P σ4))) : gc_G θ K (nX12_init (n + 1) c s) (gc_Pv P) 0 [(0, va_rf (some a0)), (1, .int x1), (2, va_rf x2), (3, va_rf x3)] [] σ bc bs := by
  refine gx_aload_nq (r := some a0) h 0 rfl dX12_init_0 ?_
  refine gx_iload_n h 1 rfl dX12_init_1 ?_
  refine gx_aload_nq (r := x2) h 2 rfl dX12_init_2 ?_
  refine gx_aload_nq (r := x3) h 3 rfl dX12_init_3 ?_
  obtain ⟨c4, s4, hb4, k⟩ := k
  refine gcc_X12_1 (r := some a0) (a0 := x1) (a1 := x2) (a2 := x3) h rfl ⟨Nat.le_refl _, Nat.le_refl _⟩ hb4 rfl (Nat.le_of_ble_eq_true rfl) dX12_init_4 (gx_C.mono k ?_)
  rintro _ σ4 ⟨rfl, k⟩
  refine ⟨rfl, ?_⟩
  exact gx_vret h rfl dX12_init_7 (⟨rfl, k⟩)
/-! X12.open -/
theorem ec_X12_open {θ : gc_T} {P : gc_S → Prop} {σ : gc_S} {n : Nat} {a0 : Nat} {x1 : Option Nat} (body : ∀ K, gc_K θ K (nX12_open (n + 1)) → gc_G θ K (nX12_open (n + 1)) (gc_Pv P) 0 [(0, va_rf (some a0)), (1, va_rf x1)] [] σ 0 0) : gx_C (gc_O θ) (nX12_open (n + 1)) [.ref a0, va_rf x1] σ (gc_Pv P) := by
  refine gx_C.intro (gc_z_warm θ) rfl (by cases x1 <;> exact Nat.le_of_ble_eq_true rfl) (fun K h => ?_)
  have k := body K h
  cases x1 <;> exact k
theorem bc_X12_open_0 {θ : gc_T} {K : gx_K} {P : gc_S → Prop} {σ : gc_S} {x1 : Option Nat} {a0 n bc bs : Nat} (h : gc_K θ K (nX12_open (n + 1))) (k : ∃ a3_1 : Nat, x1 = some a3_1 ∧ gc_is σ a3_1 3 ∧ gx_C (gc_O θ) (nX3_say_2 n) (.ref a3_1 :: [.int 60]) σ (gc_Pv (fun σ3 => P σ3))) : gc_G θ K (nX12_open (n + 1)) (gc_Pv P) 0 [(0, va_rf (some a0)), (1, va_rf x1)] [] σ bc bs := by
  refine gx_aload_nq (r := x1) h 1 rfl dX12_open_0 ?_
  refine gx_bipush (v := 60) h dX12_open_1 (by decide) ?_
  obtain ⟨a3_1, e3_1, k⟩ := k
  refine gcc_X12_42 (r := x1) (a0 := 60) h rfl ⟨Nat.le_refl _, Nat.le_refl _⟩ e3_1 k.1 (Nat.le_of_ble_eq_true rfl) dX12_open_3 (gx_C.mono k.2 ?_)
  rintro _ σ3 ⟨rfl, k⟩
  refine ⟨rfl, ?_⟩
  exact gx_vret h rfl dX12_open_6 (⟨rfl, k⟩)
/-! X12.close -/
theorem ec_X12_close {θ : gc_T} {P : gc_S → Prop} {σ : gc_S} {n : Nat} {a0 : Nat} {x1 : Option Nat} (body : ∀ K, gc_K θ K (nX12_close (n + 1)) → gc_G θ K (nX12_close (n + 1)) (gc_Pv P) 0 [(0, va_rf (some a0)), (1, va_rf x1)] [] σ 0 0) : gx_C (gc_O θ) (nX12_close (n + 1)) [.ref a0, va_rf x1] σ (gc_Pv P) := by
  refine gx_C.intro (gc_z_warm θ) rfl (by cases x1 <;> exact Nat.le_of_ble_eq_true rfl) (fun K h => ?_)
  have k := body K h
  cases x1 <;> exact k
theorem bc_X12_close_0 {θ : gc_T} {K : gx_K} {P : gc_S → Prop} {σ : gc_S} {x1 : Option Nat} {a0 n bc bs : Nat} (h : gc_K θ K (nX12_close (n + 1))) (k : ∃ a3_1 : Nat, x1 = some a3_1 ∧ gc_is σ a3_1 3 ∧ gx_C (gc_O θ) (nX3_say_2 n) (.ref a3_1 :: [.int 62]) σ (gc_Pv (fun σ3 => P σ3))) : gc_G θ K (nX12_close (n + 1)) (gc_Pv P) 0 [(0, va_rf (some a0)), (1, va_rf x1)] [] σ bc bs := by
  refine gx_aload_nq (r := x1) h 1 rfl dX12_close_0 ?_
  refine gx_bipush (v := 62) h dX12_close_1 (by decide) ?_
  obtain ⟨a3_1, e3_1, k⟩ := k
  refine gcc_X12_42 (r := x1) (a0 := 62) h rfl ⟨Nat.le_refl _, Nat.le_refl _⟩ e3_1 k.1 (Nat.le_of_ble_eq_true rfl) dX12_close_3 (gx_C.mono k.2 ?_)
  rintro _ σ3 ⟨rfl, k⟩
  refine ⟨rfl, ?_⟩
  exact gx_vret h rfl dX12_close_6 (⟨rfl, k⟩)
/-! X12.kind -/
theorem ec_X12_kind {θ : gc_T} {P : Int32 → gc_S → Prop} {σ : gc_S} {n : Nat} {a0 : Nat} (body : ∀ K, gc_K θ K (nX12_kind (n + 1)) → gc_G θ K (nX12_kind (n + 1)) (gc_Pi P) 0 [(0, va_rf (some a0))] [] σ 0 0) : gx_C (gc_O θ) (nX12_kind (n + 1)) [.ref a0] σ (gc_Pi P) :=
  gx_C.intro (gc_z_warm θ) rfl (Nat.le_of_ble_eq_true rfl) body
theorem bc_X12_kind_0 {θ : gc_T} {K : gx_K} {P : Int32 → gc_S → Prop} {σ : gc_S} {a0 n bc bs : Nat} (h : gc_K θ K (nX12_kind (n + 1))) (k : gc_is σ a0 10 ∧ gx_C (gc_O θ) (nX11_kind n) (.ref a0 :: []) σ (gc_Pi (fun r2 σ2 => P (1 + r2) σ2))) : gc_G θ K (nX12_kind (n + 1)) (gc_Pi P) 0 [(0, va_rf (some a0))] [] σ bc bs := by
  refine gx_iconst (v := 1) h dX12_kind_0 (by decide) ?_
  refine gx_aload_nq (r := some a0) h 0 rfl dX12_kind_1 ?_
  refine gcc_X12_7 (r := some a0)  h rfl ⟨Nat.le_refl _, Nat.le_refl _⟩ rfl k.1 (Nat.le_of_ble_eq_true rfl) dX12_kind_2 (gx_C.mono k.2 ?_)
  rintro _ σ2 ⟨r2, rfl, k⟩
  refine ⟨r2, rfl, ?_⟩
  refine gx_iadd h dX12_kind_5 ?_
  exact gx_iret h rfl dX12_kind_6 (⟨_, rfl, k⟩)
/-! X12.clashes -/
theorem ec_X12_clashes {θ : gc_T} {P : Int32 → gc_S → Prop} {σ : gc_S} {n : Nat} {a0 : Nat} (body : ∀ K, gc_K θ K (nX12_clashes (n + 1)) → gc_G θ K (nX12_clashes (n + 1)) (gc_Pi P) 0 [(0, va_rf (some a0))] [] σ 0 0) : gx_C (gc_O θ) (nX12_clashes (n + 1)) [.ref a0] σ (gc_Pi P) :=
  gx_C.intro (gc_z_warm θ) rfl (Nat.le_of_ble_eq_true rfl) body
theorem bc_X12_clashes_0 {θ : gc_T} {K : gx_K} {P : Int32 → gc_S → Prop} {σ : gc_S} {a0 n bc bs : Nat} (h : gc_K θ K (nX12_clashes (n + 1))) (k : gc_G θ K (nX12_clashes (n + 1)) (gc_Pi P) 2 [(0, va_rf (some a0)), (1, .int 0)] [] σ bc bs) : gc_G θ K (nX12_clashes (n + 1)) (gc_Pi P) 0 [(0, va_rf (some a0))] [] σ bc bs := by
  refine gx_iconst (v := 0) h dX12_clashes_0 (by decide) ?_
  refine gx_istore_n (L' := [(1, .int 0), (0, va_rf (some a0))]) h (Nat.le_of_ble_eq_true rfl) rfl dX12_clashes_1 ?_
  exact gx_sub [1, 0] rfl k
theorem bc_X12_clashes_2 {θ : gc_T} {K : gx_K} {P : Int32 → gc_S → Prop} {σ : gc_S} {x1 : Int32} {a0 n bc bs : Nat} (h : gc_K θ K (nX12_clashes (n + 1))) (k : gc_is σ a0 10 ∧ ∃ a7_1 : Nat, gc_R σ 804 a0 = some a7_1 ∧ gc_is σ a7_1 12 ∧ gx_C (gc_O θ) (nJ5_size n) (.ref a7_1 :: []) σ (gc_Pi (fun r7 σ7 => ((r7 ≤ x1 → gc_is σ7 a0 10 ∧ gx_C (gc_O θ) (nX9_clashes n) (.ref a0 :: []) σ7 (gc_Pi (fun r69 σ69 => narrow .boolean (.int r69) = .int r69 ∧ P r69 σ69))) ∧ (¬ r7 ≤ x1 → gc_G θ K (nX12_clashes (n + 1)) (gc_Pi P) 15 [(0, va_rf (some a0)), (1, .int x1), (2, .int 0)] [] σ7 bc bs))))) : gc_G θ K (nX12_clashes (n + 1)) (gc_Pi P) 2 [(0, va_rf (some a0)), (1, .int x1)] [] σ bc bs := by
  refine gx_iload_n h 1 rfl dX12_clashes_2 ?_
  refine gx_aload_nq (r := some a0) h 0 rfl dX12_clashes_3 ?_
  refine gcg_X12_11 h rfl rfl k.1 dX12_clashes_4 ?_
  replace k := k.2
  obtain ⟨a7_1, e7_1, k⟩ := k
  refine gcc_X12_17 (r := gc_R σ 804 a0)  h rfl ⟨Nat.le_refl _, Nat.le_refl _⟩ e7_1 k.1 (Nat.le_of_ble_eq_true rfl) dX12_clashes_7 (gx_C.mono k.2 ?_)
  rintro _ σ7 ⟨r7, rfl, k⟩
  refine ⟨r7, rfl, ?_⟩
  refine gx_icmp_ge (tgt := 68) h (by decide) dX12_clashes_10 (fun c => ?_) (fun c => ?_)
  · replace k := k.1 c
    refine gx_aload_nq (r := some a0) h 0 rfl dX12_clashes_68 ?_
    refine gcc_X12_38 (r := some a0)  h rfl ⟨Nat.le_refl _, Nat.le_refl _⟩ rfl k.1 (Nat.le_of_ble_eq_true rfl) dX12_clashes_69 (gx_C.mono k.2 ?_)
    rintro _ σ69 ⟨r69, rfl, k⟩
    refine ⟨r69, rfl, ?_⟩
    exact gx_zret h rfl k.1 dX12_clashes_72 (⟨_, rfl, k.2⟩)
  · replace k := k.2 c
    refine gx_iconst (v := 0) h dX12_clashes_13 (by decide) ?_
    refine gx_istore_n (L' := [(2, .int 0), (0, va_rf (some a0)), (1, .int x1)]) h (Nat.le_of_ble_eq_true rfl) rfl dX12_clashes_14 ?_
    exact gx_sub [1, 2, 0] rfl k
theorem bc_X12_clashes_15 {θ : gc_T} {K : gx_K} {P : Int32 → gc_S → Prop} {σ : gc_S} {x1 x2 : Int32} {a0 n bc bs : Nat} (h : gc_K θ K (nX12_clashes (n + 1))) (k : ((x1 ≤ x2 → gc_G θ K (nX12_clashes (n + 1)) (gc_Pi P) 2 [(0, va_rf (some a0)), (1, .int (x1 + 1))] [] σ bc bs) ∧ (¬ x1 ≤ x2 → gc_is σ a0 10 ∧ ∃ a25_1 : Nat, gc_R σ 804 a0 = some a25_1 ∧ gc_is σ a25_1 12 ∧ gx_C (gc_O θ) (nJ5_get n) (.ref a25_1 :: [.int x1]) σ (gc_Pr (fun r25 σ25 => (∀ a, r25 = some a → gc_isN σ25 a) ∧ ∃ a31_2 : Nat, r25 = some a31_2 ∧ gc_isN σ25 a31_2 ∧ gc_is σ25 a0 10 ∧ ∃ a39_3 : Nat, gc_R σ25 804 a0 = some a39_3 ∧ gc_is σ25 a39_3 12 ∧ gx_C (gc_O θ) (nJ5_get n) (.ref a39_3 :: [.int x2]) σ25 (gc_Pr (fun r39 σ39 => (∀ a, r39 = some a → gc_isN σ39 a) ∧ ∃ a45_4 : Nat, r39 = some a45_4 ∧ gc_isN σ39 a45_4 ∧ gx_C (gc_O θ) (nX0_isSame n) [va_rf (gc_R σ25 801 a31_2), va_rf (gc_R σ39 801 a45_4)] σ39 (gc_Pi (fun r48 σ48 => ((r48 = 0 → gc_G θ K (nX12_clashes (n + 1)) (gc_Pi P) 15 [(0, va_rf (some a0)), (1, .int x1), (2, .int (x2 + 1))] [] σ48 bc bs) ∧ (¬ r48 = 0 → P 1 σ48))))))))))) : gc_G θ K (nX12_clashes (n + 1)) (gc_Pi P) 15 [(0, va_rf (some a0)), (1, .int x1), (2, .int x2)] [] σ bc bs := by
  refine gx_iload_n h 2 rfl dX12_clashes_15 ?_
  refine gx_iload_n h 1 rfl dX12_clashes_16 ?_
  refine gx_icmp_ge (tgt := 62) h (by decide) dX12_clashes_17 (fun c => ?_) (fun c => ?_)
  · replace k := k.1 c
    refine gx_iinc (v := x1 + 1) (L' := [(1, .int (x1 + 1)), (0, va_rf (some a0)), (2, .int x2)]) h 1 rfl rfl (Nat.le_of_ble_eq_true rfl) rfl dX12_clashes_62 ?_
    refine gx_goto (tgt := 2) h (by decide) dX12_clashes_65 ?_
    exact gx_sub [1, 0] rfl k
  · replace k := k.2 c
    refine gx_aload_nq (r := some a0) h 0 rfl dX12_clashes_20 ?_
    refine gcg_X12_11 h rfl rfl k.1 dX12_clashes_21 ?_
    replace k := k.2
    refine gx_iload_n h 1 rfl dX12_clashes_24 ?_
    obtain ⟨a25_1, e25_1, k⟩ := k
    refine gcc_X12_22 (r := gc_R σ 804 a0) (a0 := x1) h rfl ⟨Nat.le_refl _, Nat.le_refl _⟩ e25_1 k.1 (Nat.le_of_ble_eq_true rfl) dX12_clashes_25 (gx_C.mono k.2 ?_)
    rintro _ σ25 ⟨r25, rfl, k⟩
    refine ⟨r25, rfl, ?_⟩
    refine gc_castN (r := r25) h rfl q921 q1639 q1638 q1640 q1641 k.1 dX12_clashes_28 ?_
    replace k := k.2
    obtain ⟨a31_2, e31_2, k⟩ := k
    refine gcg_X12_28 h rfl e31_2 k.1 dX12_clashes_31 ?_
    replace k := k.2
    refine gx_aload_nq (r := some a0) h 0 rfl dX12_clashes_34 ?_
    refine gcg_X12_11 h rfl rfl k.1 dX12_clashes_35 ?_
    replace k := k.2
    refine gx_iload_n h 2 rfl dX12_clashes_38 ?_
    obtain ⟨a39_3, e39_3, k⟩ := k
    refine gcc_X12_22 (r := gc_R σ25 804 a0) (a0 := x2) h rfl ⟨Nat.le_refl _, Nat.le_refl _⟩ e39_3 k.1 (by simp only [List.map_cons, List.map_nil, List.sum_cons, List.sum_nil, gx_cat]; exact Nat.le_of_ble_eq_true rfl) dX12_clashes_39 (gx_C.mono k.2 ?_)
    rintro _ σ39 ⟨r39, rfl, k⟩
    refine ⟨r39, rfl, ?_⟩
    refine gc_castN (r := r39) h rfl q921 q1639 q1638 q1640 q1641 k.1 dX12_clashes_42 ?_
    replace k := k.2
    obtain ⟨a45_4, e45_4, k⟩ := k
    refine gcg_X12_28 h rfl e45_4 k.1 dX12_clashes_45 ?_
    replace k := k.2
    refine gcc_X12_32 (a0 := gc_R σ25 801 a31_2) (a1 := gc_R σ39 801 a45_4) h rfl ⟨Nat.le_refl _, Nat.le_refl _⟩ (Nat.le_of_ble_eq_true rfl) dX12_clashes_48 (gx_C.mono k ?_)
    rintro _ σ48 ⟨r48, rfl, k⟩
    refine ⟨r48, rfl, ?_⟩
    refine gx_if_eq (tgt := 56) h (by decide) dX12_clashes_51 (fun c => ?_) (fun c => ?_)
    · replace k := k.1 c
      refine gx_iinc (v := x2 + 1) (L' := [(2, .int (x2 + 1)), (0, va_rf (some a0)), (1, .int x1)]) h 2 rfl rfl (Nat.le_of_ble_eq_true rfl) rfl dX12_clashes_56 ?_
      refine gx_goto (tgt := 15) h (by decide) dX12_clashes_59 ?_
      exact gx_sub [1, 2, 0] rfl k
    · replace k := k.2 c
      refine gx_iconst (v := 1) h dX12_clashes_54 (by decide) ?_
      exact gx_zret h rfl rfl dX12_clashes_55 (⟨_, rfl, k⟩)
/-! X13.init -/
theorem ec_X13_init {θ : gc_T} {P : gc_S → Prop} {σ : gc_S} {n c s : Nat} {a0 : Nat} {x1 : Int32} {x2 : Option Nat} {x3 : Option Nat} (body : ∀ K, gc_K θ K (nX13_init (n + 1) c s) → gc_G θ K (nX13_init (n + 1) c s) (gc_Pv P) 0 [(0, va_rf (some a0)), (1, .int x1), (2, va_rf x2), (3, va_rf x3)] [] σ c s) : gx_C (gc_O θ) (nX13_init (n + 1) c s) [.ref a0, .int x1, va_rf x2, va_rf x3] σ (gc_Pv P) := by
  refine gx_C.intro (gc_z_warm θ) rfl (by cases x2 <;>  cases x3 <;> exact Nat.le_of_ble_eq_true rfl) (fun K h => ?_)
  have k := body K h
  cases x2 <;>  cases x3 <;> exact k
theorem bc_X13_init_0 {θ : gc_T} {K : gx_K} {P : gc_S → Prop} {σ : gc_S} {x1 : Int32} {x2 x3 : Option Nat} {a0 n c s bc bs : Nat} (h : gc_K θ K (nX13_init (n + 1) c s)) (k : ∃ c4 s4 : Nat, (c4 ≤ bc ∧ s4 ≤ bs) ∧ gx_C (gc_O θ) (nX9_init n c4 s4) (.ref a0 :: [.int x1, va_rf x2, va_rf x3]) σ (gc_Pv (fun σ4 => P σ4))) : gc_G θ K (nX13_init (n + 1) c s) (gc_Pv P) 0 [(0, va_rf (some a0)), (1, .int x1), (2, va_rf x2), (3, va_rf x3)] [] σ bc bs := by
  refine gx_aload_nq (r := some a0) h 0 rfl dX13_init_0 ?_
  refine gx_iload_n h 1 rfl dX13_init_1 ?_
  refine gx_aload_nq (r := x2) h 2 rfl dX13_init_2 ?_
  refine gx_aload_nq (r := x3) h 3 rfl dX13_init_3 ?_
  obtain ⟨c4, s4, hb4, k⟩ := k
  refine gcc_X13_1 (r := some a0) (a0 := x1) (a1 := x2) (a2 := x3) h rfl ⟨Nat.le_refl _, Nat.le_refl _⟩ hb4 rfl (Nat.le_of_ble_eq_true rfl) dX13_init_4 (gx_C.mono k ?_)
  rintro _ σ4 ⟨rfl, k⟩
  refine ⟨rfl, ?_⟩
  exact gx_vret h rfl dX13_init_7 (⟨rfl, k⟩)
/-! X13.open -/
theorem ec_X13_open {θ : gc_T} {P : gc_S → Prop} {σ : gc_S} {n : Nat} {a0 : Nat} {x1 : Option Nat} (body : ∀ K, gc_K θ K (nX13_open (n + 1)) → gc_G θ K (nX13_open (n + 1)) (gc_Pv P) 0 [(0, va_rf (some a0)), (1, va_rf x1)] [] σ 0 0) : gx_C (gc_O θ) (nX13_open (n + 1)) [.ref a0, va_rf x1] σ (gc_Pv P) := by
  refine gx_C.intro (gc_z_warm θ) rfl (by cases x1 <;> exact Nat.le_of_ble_eq_true rfl) (fun K h => ?_)
  have k := body K h
  cases x1 <;> exact k
theorem bc_X13_open_0 {θ : gc_T} {K : gx_K} {P : gc_S → Prop} {σ : gc_S} {x1 : Option Nat} {a0 n bc bs : Nat} (h : gc_K θ K (nX13_open (n + 1))) (k : ∃ a3_1 : Nat, x1 = some a3_1 ∧ gc_is σ a3_1 3 ∧ gx_C (gc_O θ) (nX3_say_2 n) (.ref a3_1 :: [.int 33]) σ (gc_Pv (fun σ3 => P σ3))) : gc_G θ K (nX13_open (n + 1)) (gc_Pv P) 0 [(0, va_rf (some a0)), (1, va_rf x1)] [] σ bc bs := by
  refine gx_aload_nq (r := x1) h 1 rfl dX13_open_0 ?_
  refine gx_bipush (v := 33) h dX13_open_1 (by decide) ?_
  obtain ⟨a3_1, e3_1, k⟩ := k
  refine gcc_X13_28 (r := x1) (a0 := 33) h rfl ⟨Nat.le_refl _, Nat.le_refl _⟩ e3_1 k.1 (Nat.le_of_ble_eq_true rfl) dX13_open_3 (gx_C.mono k.2 ?_)
  rintro _ σ3 ⟨rfl, k⟩
  refine ⟨rfl, ?_⟩
  exact gx_vret h rfl dX13_open_6 (⟨rfl, k⟩)
/-! X13.close -/
theorem ec_X13_close {θ : gc_T} {P : gc_S → Prop} {σ : gc_S} {n : Nat} {a0 : Nat} {x1 : Option Nat} (body : ∀ K, gc_K θ K (nX13_close n) → gc_G θ K (nX13_close n) (gc_Pv P) 0 [(0, va_rf (some a0)), (1, va_rf x1)] [] σ 0 0) : gx_C (gc_O θ) (nX13_close n) [.ref a0, va_rf x1] σ (gc_Pv P) := by
  refine gx_C.intro (gc_z_warm θ) rfl (by cases x1 <;> exact Nat.le_of_ble_eq_true rfl) (fun K h => ?_)
  have k := body K h
  cases x1 <;> exact k
theorem bc_X13_close_0 {θ : gc_T} {K : gx_K} {P : gc_S → Prop} {σ : gc_S} {x1 : Option Nat} {a0 n bc bs : Nat} (h : gc_K θ K (nX13_close n)) (k : P σ) : gc_G θ K (nX13_close n) (gc_Pv P) 0 [(0, va_rf (some a0)), (1, va_rf x1)] [] σ bc bs := by
  exact gx_vret h rfl dX13_close_0 (⟨rfl, k⟩)
/-! X13.kind -/
theorem ec_X13_kind {θ : gc_T} {P : Int32 → gc_S → Prop} {σ : gc_S} {n : Nat} {a0 : Nat} (body : ∀ K, gc_K θ K (nX13_kind n) → gc_G θ K (nX13_kind n) (gc_Pi P) 0 [(0, va_rf (some a0))] [] σ 0 0) : gx_C (gc_O θ) (nX13_kind n) [.ref a0] σ (gc_Pi P) :=
  gx_C.intro (gc_z_warm θ) rfl (Nat.le_of_ble_eq_true rfl) body
theorem bc_X13_kind_0 {θ : gc_T} {K : gx_K} {P : Int32 → gc_S → Prop} {σ : gc_S} {a0 n bc bs : Nat} (h : gc_K θ K (nX13_kind n)) (k : P 3 σ) : gc_G θ K (nX13_kind n) (gc_Pi P) 0 [(0, va_rf (some a0))] [] σ bc bs := by
  refine gx_iconst (v := 3) h dX13_kind_0 (by decide) ?_
  exact gx_iret h rfl dX13_kind_1 (⟨_, rfl, k⟩)
/-! X13.bears -/
theorem ec_X13_bears {θ : gc_T} {P : Int32 → gc_S → Prop} {σ : gc_S} {n : Nat} {a0 : Nat} (body : ∀ K, gc_K θ K (nX13_bears n) → gc_G θ K (nX13_bears n) (gc_Pi P) 0 [(0, va_rf (some a0))] [] σ 0 0) : gx_C (gc_O θ) (nX13_bears n) [.ref a0] σ (gc_Pi P) :=
  gx_C.intro (gc_z_warm θ) rfl (Nat.le_of_ble_eq_true rfl) body
theorem bc_X13_bears_0 {θ : gc_T} {K : gx_K} {P : Int32 → gc_S → Prop} {σ : gc_S} {a0 n bc bs : Nat} (h : gc_K θ K (nX13_bears n)) (k : P 0 σ) : gc_G θ K (nX13_bears n) (gc_Pi P) 0 [(0, va_rf (some a0))] [] σ bc bs := by
  refine gx_iconst (v := 0) h dX13_bears_0 (by decide) ?_
  exact gx_zret h rfl rfl dX13_bears_1 (⟨_, rfl, k⟩)
/-! X13.fits -/
theorem ec_X13_fits {θ : gc_T} {P : Int32 → gc_S → Prop} {σ : gc_S} {n : Nat} {a0 : Nat} {x1 : Option Nat} (body : ∀ K, gc_K θ K (nX13_fits (n + 1)) → gc_G θ K (nX13_fits (n + 1)) (gc_Pi P) 0 [(0, va_rf (some a0)), (1, va_rf x1)] [] σ 0 0) : gx_C (gc_O θ) (nX13_fits (n + 1)) [.ref a0, va_rf x1] σ (gc_Pi P) := by
  refine gx_C.intro (gc_z_warm θ) rfl (by cases x1 <;> exact Nat.le_of_ble_eq_true rfl) (fun K h => ?_)
  have k := body K h
  cases x1 <;> exact k
theorem bc_X13_fits_0 {θ : gc_T} {K : gx_K} {P : Int32 → gc_S → Prop} {σ : gc_S} {x1 : Option Nat} {a0 n bc bs : Nat} (h : gc_K θ K (nX13_fits (n + 1))) (k : gc_is σ a0 11 ∧ gx_C (gc_O θ) (nX9_fits n) (.ref a0 :: [va_rf x1]) σ (gc_Pi (fun r2 σ2 => ((r2 = 0 → gc_G θ K (nX13_fits (n + 1)) (gc_Pi P) 40 [] [] σ2 bc bs) ∧ (¬ r2 = 0 → gc_is σ2 a0 11 ∧ ∃ a13_1 : Nat, x1 = some a13_1 ∧ gc_isN σ2 a13_1 ∧ gx_C (gc_O θ) (nX0_isSame n) [va_rf (gc_R σ2 801 a0), va_rf (gc_R σ2 801 a13_1)] σ2 (gc_Pi (fun r16 σ16 => ((r16 = 0 → gc_G θ K (nX13_fits (n + 1)) (gc_Pi P) 40 [] [] σ16 bc bs) ∧ (¬ r16 = 0 → gc_is σ16 a0 11 ∧ gc_isN σ16 a13_1 ∧ gx_C (gc_O θ) (nX0_isSame n) [va_rf (gc_R σ16 802 a0), va_rf (gc_R σ16 802 a13_1)] σ16 (gc_Pi (fun r30 σ30 => ((r30 = 0 → gc_G θ K (nX13_fits (n + 1)) (gc_Pi P) 40 [] [] σ30 bc bs) ∧ (¬ r30 = 0 → P 1 σ30))))))))))))) : gc_G θ K (nX13_fits (n + 1)) (gc_Pi P) 0 [(0, va_rf (some a0)), (1, va_rf x1)] [] σ bc bs := by
  refine gx_aload_nq (r := some a0) h 0 rfl dX13_fits_0 ?_
  refine gx_aload_nq (r := x1) h 1 rfl dX13_fits_1 ?_
  refine gcc_X13_7 (r := some a0) (a0 := x1) h rfl ⟨Nat.le_refl _, Nat.le_refl _⟩ rfl k.1 (Nat.le_of_ble_eq_true rfl) dX13_fits_2 (gx_C.mono k.2 ?_)
  rintro _ σ2 ⟨r2, rfl, k⟩
  refine ⟨r2, rfl, ?_⟩
  refine gx_if_eq (tgt := 40) h (by decide) dX13_fits_5 (fun c => ?_) (fun c => ?_)
  · replace k := k.1 c
    exact gx_sub [] rfl k
  · replace k := k.2 c
    refine gx_aload_nq (r := some a0) h 0 rfl dX13_fits_8 ?_
    refine gcg_X13_11 h rfl rfl k.1 dX13_fits_9 ?_
    replace k := k.2
    refine gx_aload_nq (r := x1) h 1 rfl dX13_fits_12 ?_
    obtain ⟨a13_1, e13_1, k⟩ := k
    refine gcg_X13_17 h rfl e13_1 k.1 dX13_fits_13 ?_
    replace k := k.2
    refine gcc_X13_18 (a0 := gc_R σ2 801 a0) (a1 := gc_R σ2 801 a13_1) h rfl ⟨Nat.le_refl _, Nat.le_refl _⟩ (Nat.le_of_ble_eq_true rfl) dX13_fits_16 (gx_C.mono k ?_)
    rintro _ σ16 ⟨r16, rfl, k⟩
    refine ⟨r16, rfl, ?_⟩
    refine gx_if_eq (tgt := 40) h (by decide) dX13_fits_19 (fun c => ?_) (fun c => ?_)
    · replace k := k.1 c
      exact gx_sub [] rfl k
    · replace k := k.2 c
      refine gx_aload_nq (r := some a0) h 0 rfl dX13_fits_22 ?_
      refine gcg_X13_24 h rfl rfl k.1 dX13_fits_23 ?_
      replace k := k.2
      refine gx_aload_nq (r := x1) h 1 rfl dX13_fits_26 ?_
      refine gcg_X13_27 h rfl e13_1 k.1 dX13_fits_27 ?_
      replace k := k.2
      refine gcc_X13_18 (a0 := gc_R σ16 802 a0) (a1 := gc_R σ16 802 a13_1) h rfl ⟨Nat.le_refl _, Nat.le_refl _⟩ (Nat.le_of_ble_eq_true rfl) dX13_fits_30 (gx_C.mono k ?_)
      rintro _ σ30 ⟨r30, rfl, k⟩
      refine ⟨r30, rfl, ?_⟩
      refine gx_if_eq (tgt := 40) h (by decide) dX13_fits_33 (fun c => ?_) (fun c => ?_)
      · replace k := k.1 c
        exact gx_sub [] rfl k
      · replace k := k.2 c
        refine gx_iconst (v := 1) h dX13_fits_36 (by decide) ?_
        refine gx_goto (tgt := 41) h (by decide) dX13_fits_37 ?_
        exact gx_zret h rfl rfl dX13_fits_41 (⟨_, rfl, k⟩)
theorem bc_X13_fits_40 {θ : gc_T} {K : gx_K} {P : Int32 → gc_S → Prop} {σ : gc_S} {n bc bs : Nat} (h : gc_K θ K (nX13_fits (n + 1))) (k : P 0 σ) : gc_G θ K (nX13_fits (n + 1)) (gc_Pi P) 40 [] [] σ bc bs := by
  refine gx_iconst (v := 0) h dX13_fits_40 (by decide) ?_
  exact gx_zret h rfl rfl dX13_fits_41 (⟨_, rfl, k⟩)
/-! J3.init -/
theorem ec_J3_init {θ : gc_T} {P : gc_S → Prop} {σ : gc_S} {n : Nat} {a0 : Nat} (body : ∀ K, gc_K θ K (nJ3_init (n + 1)) → gc_G θ K (nJ3_init (n + 1)) (gc_Pv P) 0 [(0, va_rf (some a0))] [] σ 0 0) : gx_C (gc_O θ) (nJ3_init (n + 1)) [.ref a0] σ (gc_Pv P) :=
  gx_C.intro (gc_z_warm θ) rfl (Nat.le_of_ble_eq_true rfl) body
theorem bc_J3_init_0 {θ : gc_T} {K : gx_K} {P : gc_S → Prop} {σ : gc_S} {a0 n bc bs : Nat} (h : gc_K θ K (nJ3_init (n + 1))) (k : P σ) : gc_G θ K (nJ3_init (n + 1)) (gc_Pv P) 0 [(0, va_rf (some a0))] [] σ bc bs := by
  refine gx_aload_nq (r := some a0) h 0 rfl dJ3_init_0 ?_
  refine gcc_J3_1 (n := n) (r := some a0) h rfl ⟨Nat.le_refl _, Nat.le_refl _⟩ rfl (Nat.le_of_ble_eq_true rfl) dJ3_init_1 ?_
  exact gx_vret h rfl dJ3_init_4 (⟨rfl, k⟩)
/-! J4.init -/
theorem ec_J4_init {θ : gc_T} {P : gc_S → Prop} {σ : gc_S} {n : Nat} {a0 : Nat} (body : ∀ K, gc_K θ K (nJ4_init (n + 1)) → gc_G θ K (nJ4_init (n + 1)) (gc_Pv P) 0 [(0, va_rf (some a0))] [] σ 0 0) : gx_C (gc_O θ) (nJ4_init (n + 1)) [.ref a0] σ (gc_Pv P) :=
  gx_C.intro (gc_z_warm θ) rfl (Nat.le_of_ble_eq_true rfl) body
theorem bc_J4_init_0 {θ : gc_T} {K : gx_K} {P : gc_S → Prop} {σ : gc_S} {a0 n bc bs : Nat} (h : gc_K θ K (nJ4_init (n + 1))) (k : gx_C (gc_O θ) (nJ3_init n) (.ref a0 :: []) σ (gc_Pv (fun σ1 => gc_is σ1 a0 12 ∧ ∀ σ6, σ6 = gc_sI σ1 1200 a0 0 → P σ6))) : gc_G θ K (nJ4_init (n + 1)) (gc_Pv P) 0 [(0, va_rf (some a0))] [] σ bc bs := by
  refine gx_aload_nq (r := some a0) h 0 rfl dJ4_init_0 ?_
  refine gcc_J4_1 (r := some a0)  h rfl ⟨Nat.le_refl _, Nat.le_refl _⟩ rfl (Nat.le_of_ble_eq_true rfl) dJ4_init_1 (gx_C.mono k ?_)
  rintro _ σ1 ⟨rfl, k⟩
  refine ⟨rfl, ?_⟩
  refine gx_aload_nq (r := some a0) h 0 rfl dJ4_init_4 ?_
  refine gx_iconst (v := 0) h dJ4_init_5 (by decide) ?_
  refine gcp_J4_7 (v := 0) h rfl rfl k.1 dJ4_init_6 ?_
  generalize hz : gc_sI σ1 1200 a0 0 = σ6
  replace k := k.2 σ6 hz.symm
  exact gx_vret h rfl dJ4_init_9 (⟨rfl, k⟩)
/-! J5.init -/
theorem ec_J5_init {θ : gc_T} {P : gc_S → Prop} {σ : gc_S} {n : Nat} {a0 : Nat} (body : ∀ K, gc_K θ K (nJ5_init (n + 1)) → gc_G θ K (nJ5_init (n + 1)) (gc_Pv P) 0 [(0, va_rf (some a0))] [] σ 0 0) : gx_C (gc_O θ) (nJ5_init (n + 1)) [.ref a0] σ (gc_Pv P) :=
  gx_C.intro (gc_z_warm θ) rfl (Nat.le_of_ble_eq_true rfl) body
theorem bc_J5_init_0 {θ : gc_T} {K : gx_K} {P : gc_S → Prop} {σ : gc_S} {a0 n bc bs : Nat} (h : gc_K θ K (nJ5_init (n + 1))) (k : gx_C (gc_O θ) (nJ4_init n) (.ref a0 :: []) σ (gc_Pv (fun σ1 => gc_is σ1 a0 12 ∧ ∀ σ8, σ8 = gc_sR σ1 1201 a0 (some (gc_aD θ)) → P σ8))) : gc_G θ K (nJ5_init (n + 1)) (gc_Pv P) 0 [(0, va_rf (some a0))] [] σ bc bs := by
  refine gx_aload_nq (r := some a0) h 0 rfl dJ5_init_0 ?_
  refine gcc_J5_1 (r := some a0)  h rfl ⟨Nat.le_refl _, Nat.le_refl _⟩ rfl (Nat.le_of_ble_eq_true rfl) dJ5_init_1 (gx_C.mono k ?_)
  rintro _ σ1 ⟨rfl, k⟩
  refine ⟨rfl, ?_⟩
  refine gx_aload_nq (r := some a0) h 0 rfl dJ5_init_4 ?_
  refine gc_dflt h rfl q298 dJ5_init_5 ?_
  refine gcp_J5_9 (v := some (gc_aD θ)) h rfl rfl k.1 dJ5_init_8 ?_
  generalize hz : gc_sR σ1 1201 a0 (some (gc_aD θ)) = σ8
  replace k := k.2 σ8 hz.symm
  exact gx_vret h rfl dJ5_init_11 (⟨rfl, k⟩)
/-! J5.size -/
theorem ec_J5_size {θ : gc_T} {P : Int32 → gc_S → Prop} {σ : gc_S} {n : Nat} {a0 : Nat} (body : ∀ K, gc_K θ K (nJ5_size n) → gc_G θ K (nJ5_size n) (gc_Pi P) 0 [(0, va_rf (some a0))] [] σ 0 0) : gx_C (gc_O θ) (nJ5_size n) [.ref a0] σ (gc_Pi P) :=
  gx_C.intro (gc_z_warm θ) rfl (Nat.le_of_ble_eq_true rfl) body
theorem bc_J5_size_0 {θ : gc_T} {K : gx_K} {P : Int32 → gc_S → Prop} {σ : gc_S} {a0 n bc bs : Nat} (h : gc_K θ K (nJ5_size n)) (k : gc_is σ a0 12 ∧ P (gc_I σ 1202 a0) σ) : gc_G θ K (nJ5_size n) (gc_Pi P) 0 [(0, va_rf (some a0))] [] σ bc bs := by
  refine gx_aload_nq (r := some a0) h 0 rfl dJ5_size_0 ?_
  refine gcg_J5_48 h rfl rfl k.1 dJ5_size_1 ?_
  replace k := k.2
  exact gx_iret h rfl dJ5_size_4 (⟨_, rfl, k⟩)
/-! J5.get -/
theorem ec_J5_get {θ : gc_T} {P : Option Nat → gc_S → Prop} {σ : gc_S} {n : Nat} {a0 : Nat} {x1 : Int32} (body : ∀ K, gc_K θ K (nJ5_get (n + 1)) → gc_G θ K (nJ5_get (n + 1)) (gc_Pr P) 0 [(0, va_rf (some a0)), (1, .int x1)] [] σ 0 0) : gx_C (gc_O θ) (nJ5_get (n + 1)) [.ref a0, .int x1] σ (gc_Pr P) :=
  gx_C.intro (gc_z_warm θ) rfl (Nat.le_of_ble_eq_true rfl) body
theorem bc_J5_get_0 {θ : gc_T} {K : gx_K} {P : Option Nat → gc_S → Prop} {σ : gc_S} {x1 : Int32} {a0 n bc bs : Nat} (h : gc_K θ K (nJ5_get (n + 1))) (k : gc_is σ a0 12 ∧ gx_C (gc_O θ) (nJ6_checkIndex n) [.int x1, .int (gc_I σ 1202 a0)] σ (gc_Pi (fun r5 σ5 => gc_is σ5 a0 12 ∧ gx_C (gc_O θ) (nJ5_elementData n) (.ref a0 :: [.int x1]) σ5 (gc_Pr (fun r11 σ11 => P r11 σ11))))) : gc_G θ K (nJ5_get (n + 1)) (gc_Pr P) 0 [(0, va_rf (some a0)), (1, .int x1)] [] σ bc bs := by
  refine gx_iload_n h 1 rfl dJ5_get_0 ?_
  refine gx_aload_nq (r := some a0) h 0 rfl dJ5_get_1 ?_
  refine gcg_J5_48 h rfl rfl k.1 dJ5_get_2 ?_
  replace k := k.2
  refine gcc_J5_118 (a0 := x1) (a1 := gc_I σ 1202 a0) h rfl ⟨Nat.le_refl _, Nat.le_refl _⟩ (Nat.le_of_ble_eq_true rfl) dJ5_get_5 (gx_C.mono k ?_)
  rintro _ σ5 ⟨r5, rfl, k⟩
  refine ⟨r5, rfl, ?_⟩
  refine gx_pop h rfl dJ5_get_8 ?_
  refine gx_aload_nq (r := some a0) h 0 rfl dJ5_get_9 ?_
  refine gx_iload_n h 1 rfl dJ5_get_10 ?_
  refine gcc_J5_123 (r := some a0) (a0 := x1) h rfl ⟨Nat.le_refl _, Nat.le_refl _⟩ rfl k.1 (Nat.le_of_ble_eq_true rfl) dJ5_get_11 (gx_C.mono k.2 ?_)
  rintro _ σ11 ⟨r11, rfl, k⟩
  refine ⟨r11, rfl, ?_⟩
  exact gx_aret (r := r11) h rfl (Or.inl ⟨_, rfl⟩) dJ5_get_14 (⟨_, rfl, k⟩)
/-! J5.elementData -/
theorem ec_J5_elementData {θ : gc_T} {P : Option Nat → gc_S → Prop} {σ : gc_S} {n : Nat} {a0 : Nat} {x1 : Int32} (body : ∀ K, gc_K θ K (nJ5_elementData n) → gc_G θ K (nJ5_elementData n) (gc_Pr P) 0 [(0, va_rf (some a0)), (1, .int x1)] [] σ 0 0) : gx_C (gc_O θ) (nJ5_elementData n) [.ref a0, .int x1] σ (gc_Pr P) :=
  gx_C.intro (gc_z_warm θ) rfl (Nat.le_of_ble_eq_true rfl) body
theorem bc_J5_elementData_0 {θ : gc_T} {K : gx_K} {P : Option Nat → gc_S → Prop} {σ : gc_S} {x1 : Int32} {a0 n bc bs : Nat} (h : gc_K θ K (nJ5_elementData n)) (k : gc_is σ a0 12 ∧ ∃ a5_1 : Nat, gc_R σ 1201 a0 = some a5_1 ∧ gc_is σ a5_1 20 ∧ vp_in x1 (gc_n σ a5_1) ∧ P (gc_Q σ a5_1 x1.toNatClampNeg) σ) : gc_G θ K (nJ5_elementData n) (gc_Pr P) 0 [(0, va_rf (some a0)), (1, .int x1)] [] σ bc bs := by
  refine gx_aload_nq (r := some a0) h 0 rfl dJ5_elementData_0 ?_
  refine gcg_J5_9 h rfl rfl k.1 dJ5_elementData_1 ?_
  replace k := k.2
  refine gx_iload_n h 1 rfl dJ5_elementData_4 ?_
  obtain ⟨a5_1, e5_1, k⟩ := k
  refine gc_aald20E (r := gc_R σ 1201 a0) h e5_1 k.1 k.2.1 dJ5_elementData_5 ?_
  replace k := k.2.2
  exact gx_aret (r := gc_Q σ a5_1 x1.toNatClampNeg) h rfl (Or.inl ⟨_, rfl⟩) dJ5_elementData_6 (⟨_, rfl, k⟩)
/-! J5.add -/
theorem ec_J5_add {θ : gc_T} {P : Int32 → gc_S → Prop} {σ : gc_S} {n c s : Nat} {a0 : Nat} {x1 : Option Nat} (body : ∀ K, gc_K θ K (nJ5_add (n + 1) c s) → gc_G θ K (nJ5_add (n + 1) c s) (gc_Pi P) 0 [(0, va_rf (some a0)), (1, va_rf x1)] [] σ c s) : gx_C (gc_O θ) (nJ5_add (n + 1) c s) [.ref a0, va_rf x1] σ (gc_Pi P) := by
  refine gx_C.intro (gc_z_warm θ) rfl (by cases x1 <;> exact Nat.le_of_ble_eq_true rfl) (fun K h => ?_)
  have k := body K h
  cases x1 <;> exact k
theorem bc_J5_add_0 {θ : gc_T} {K : gx_K} {P : Int32 → gc_S → Prop} {σ : gc_S} {x1 : Option Nat} {a0 n c s bc bs : Nat} (h : gc_K θ K (nJ5_add (n + 1) c s)) (k : gc_is σ a0 12 ∧ gc_is σ a0 12 ∧ ∀ σ7, σ7 = gc_sI σ 1200 a0 ((gc_I σ 1200 a0) + 1) → gc_is σ7 a0 12 ∧ gc_is σ7 a0 12 ∧ ∃ c20 s20 : Nat, (c20 ≤ bc ∧ s20 ≤ bs) ∧ gc_is σ7 a0 12 ∧ gx_C (gc_O θ) (nJ5_add_2 n c20 s20) (.ref a0 :: [va_rf x1, va_rf (gc_R σ7 1201 a0), .int (gc_I σ7 1202 a0)]) σ7 (gc_Pv (fun σ20 => P 1 σ20))) : gc_G θ K (nJ5_add (n + 1) c s) (gc_Pi P) 0 [(0, va_rf (some a0)), (1, va_rf x1)] [] σ bc bs := by
  refine gx_aload_nq (r := some a0) h 0 rfl dJ5_add_0 ?_
  refine gx_dup h rfl dJ5_add_1 ?_
  refine gcg_J5_63 h rfl rfl k.1 dJ5_add_2 ?_
  replace k := k.2
  refine gx_iconst (v := 1) h dJ5_add_5 (by decide) ?_
  refine gx_iadd h dJ5_add_6 ?_
  refine gcp_J5_63 (v := (gc_I σ 1200 a0) + 1) h rfl rfl k.1 dJ5_add_7 ?_
  generalize hz : gc_sI σ 1200 a0 ((gc_I σ 1200 a0) + 1) = σ7
  replace k := k.2 σ7 hz.symm
  refine gx_aload_nq (r := some a0) h 0 rfl dJ5_add_10 ?_
  refine gx_aload_nq (r := x1) h 1 rfl dJ5_add_11 ?_
  refine gx_aload_nq (r := some a0) h 0 rfl dJ5_add_12 ?_
  refine gcg_J5_9 h rfl rfl k.1 dJ5_add_13 ?_
  replace k := k.2
  refine gx_aload_nq (r := some a0) h 0 rfl dJ5_add_16 ?_
  refine gcg_J5_48 h rfl rfl k.1 dJ5_add_17 ?_
  replace k := k.2
  obtain ⟨c20, s20, hb20, k⟩ := k
  refine gcc_J5_131 (r := some a0) (a0 := x1) (a1 := gc_R σ7 1201 a0) (a2 := gc_I σ7 1202 a0) h rfl ⟨Nat.le_refl _, Nat.le_refl _⟩ hb20 rfl k.1 (Nat.le_of_ble_eq_true rfl) dJ5_add_20 (gx_C.mono k.2 ?_)
  rintro _ σ20 ⟨rfl, k⟩
  refine ⟨rfl, ?_⟩
  refine gx_iconst (v := 1) h dJ5_add_23 (by decide) ?_
  exact gx_zret h rfl rfl dJ5_add_24 (⟨_, rfl, k⟩)
