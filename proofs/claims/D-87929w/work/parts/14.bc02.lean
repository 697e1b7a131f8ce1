set_option maxRecDepth 100000
/-! X0.distance -/
theorem ec_X0_distance {θ : gc_T} {P : Int32 → gc_S → Prop} {σ : gc_S} {n c s : Nat} {a0 : Nat} {x1 : Int32} {x2 : Int32} (body : ∀ K, gc_K θ K (nX0_distance (n + 1) c s) → gc_G θ K (nX0_distance (n + 1) c s) (gc_Pi P) 0 [(0, va_rf (some a0)), (1, .int x1), (2, .int x2)] [] σ c s) : gx_C (gc_O θ) (nX0_distance (n + 1) c s) [.ref a0, .int x1, .int x2] σ (gc_Pi P) :=
  gx_C.intro (gc_z_warm θ) rfl (Nat.le_of_ble_eq_true rfl) body
theorem bc_X0_distance_0 {θ : gc_T} {K : gx_K} {P : Int32 → gc_S → Prop} {σ : gc_S} {x1 x2 : Int32} {a0 n c s bc bs : Nat} (h : gc_K θ K (nX0_distance (n + 1) c s)) (k : ∃ c2 s2 : Nat, (c2 ≤ bc ∧ s2 ≤ bs) ∧ gc_is σ a0 0 ∧ gx_C (gc_O θ) (nX0_tree n c2 s2) (.ref a0 :: [.int x1]) σ (gc_Qr (fun r2 σ2 => gc_is σ2 a0 0 ∧ ∃ c13 s13 : Nat, (c13 ≤ (bc - c2) ∧ s13 ≤ (bs - s2)) ∧ gc_is σ2 a0 0 ∧ gx_C (gc_O θ) (nX0_tree n c13 s13) (.ref a0 :: [.int x2]) σ2 (gc_Qr (fun r13 σ13 => ∃ a16_1 : Nat, gc_R σ2 8 a0 = some a16_1 ∧ gc_is σ13 a16_1 4 ∧ gx_C (gc_O θ) (nX4_distance n) (.ref a16_1 :: [va_rf r2, va_rf r13]) σ13 (gc_Pi (fun r16 σ16 => P r16 σ16))) (fun a13 σ13 => gc_is σ13 a13 1 ∧ gc_G θ K (nX0_distance (n + 1) c s) (gc_Pi P) 20 [(0, va_rf (some a0))] [va_rf (some a13)] σ13 ((bc - c2) - c13) ((bs - s2) - s13)))) (fun a2 σ2 => gc_is σ2 a2 1 ∧ gc_G θ K (nX0_distance (n + 1) c s) (gc_Pi P) 20 [(0, va_rf (some a0))] [va_rf (some a2)] σ2 (bc - c2) (bs - s2)))) : gc_G θ K (nX0_distance (n + 1) c s) (gc_Pi P) 0 [(0, va_rf (some a0)), (1, .int x1), (2, .int x2)] [] σ bc bs := by
  refine gx_aload_nq (r := some a0) h 0 rfl dX0_distance_0 ?_
  refine gx_iload_n h 1 rfl dX0_distance_1 ?_
  obtain ⟨c2, s2, hb2, k⟩ := k
  refine gcc_X0_162 (r := some a0) (a0 := x1) h rfl ⟨Nat.le_refl _, Nat.le_refl _⟩ hb2 rfl k.1 (Nat.le_of_ble_eq_true rfl) dX0_distance_2 (gx_C.mono k.2 ?_)
  rintro o σ2 (⟨r2, rfl, k⟩ | ⟨a2, rfl, k⟩)
  · refine Or.inl ⟨r2, rfl, ?_⟩
    refine gx_astore_nq (r := r2) (L' := [(3, va_rf r2), (0, va_rf (some a0)), (1, .int x1), (2, .int x2)]) h (Nat.le_of_ble_eq_true rfl) rfl dX0_distance_5 ?_
    refine gx_aload_nq (r := some a0) h 1 rfl dX0_distance_6 ?_
    refine gcg_X0_73 h rfl rfl k.1 dX0_distance_7 ?_
    replace k := k.2
    refine gx_aload_nq (r := r2) h 0 rfl dX0_distance_10 ?_
    refine gx_aload_nq (r := some a0) h 1 rfl dX0_distance_11 ?_
    refine gx_iload_n h 3 rfl dX0_distance_12 ?_
    obtain ⟨c13, s13, hb13, k⟩ := k
    refine gcc_X0_162 (r := some a0) (a0 := x2) h rfl ⟨Nat.le_refl _, Nat.le_refl _⟩ hb13 rfl k.1 (by simp only [List.map_cons, List.map_nil, List.sum_cons, List.sum_nil, gx_cat]; exact Nat.le_of_ble_eq_true rfl) dX0_distance_13 (gx_C.mono k.2 ?_)
    rintro o σ13 (⟨r13, rfl, k⟩ | ⟨a13, rfl, k⟩)
    · refine Or.inl ⟨r13, rfl, ?_⟩
      obtain ⟨a16_1, e16_1, k⟩ := k
      refine gcc_X0_268 (r := gc_R σ2 8 a0) (a0 := r2) (a1 := r13) h rfl ⟨Nat.le_refl _, Nat.le_refl _⟩ e16_1 k.1 (Nat.le_of_ble_eq_true rfl) dX0_distance_16 (gx_C.mono k.2 ?_)
      rintro _ σ16 ⟨r16, rfl, k⟩
      refine ⟨r16, rfl, ?_⟩
      exact gx_iret h rfl dX0_distance_19 (⟨_, rfl, k⟩)
    · refine Or.inr ⟨a13, rfl, ?_⟩
      refine gc_catchF h rfl q107 q109 [] ⟨0, 19, 20, 33⟩ [] rfl rfl rfl rfl k.1 ?_
      replace k := k.2
      exact gx_sub [1] rfl k
  · refine Or.inr ⟨a2, rfl, ?_⟩
    refine gc_catchF h rfl q107 q109 [] ⟨0, 19, 20, 33⟩ [] rfl rfl rfl rfl k.1 ?_
    replace k := k.2
    exact gx_sub [0] rfl k
theorem bc_X0_distance_20 {θ : gc_T} {K : gx_K} {P : Int32 → gc_S → Prop} {σ : gc_S} {a0 s0 n c s bc bs : Nat} (h : gc_K θ K (nX0_distance (n + 1) c s)) (k : gc_is σ a0 0 ∧ gx_C (gc_O θ) (nX0_finds n) (.ref a0 :: [va_rf (some s0)]) σ (gc_Pi (fun r23 σ23 => P r23 σ23))) : gc_G θ K (nX0_distance (n + 1) c s) (gc_Pi P) 20 [(0, va_rf (some a0))] [va_rf (some s0)] σ bc bs := by
  refine gx_astore_nq (r := some s0) (L' := [(3, va_rf (some s0)), (0, va_rf (some a0))]) h (Nat.le_of_ble_eq_true rfl) rfl dX0_distance_20 ?_
  refine gx_aload_nq (r := some a0) h 1 rfl dX0_distance_21 ?_
  refine gx_aload_nq (r := some s0) h 0 rfl dX0_distance_22 ?_
  refine gcc_X0_138 (r := some a0) (a0 := some s0) h rfl ⟨Nat.le_refl _, Nat.le_refl _⟩ rfl k.1 (Nat.le_of_ble_eq_true rfl) dX0_distance_23 (gx_C.mono k.2 ?_)
  rintro _ σ23 ⟨r23, rfl, k⟩
  refine ⟨r23, rfl, ?_⟩
  exact gx_iret h rfl dX0_distance_26 (⟨_, rfl, k⟩)
/-! X0.map -/
theorem ec_X0_map {θ : gc_T} {P : Int32 → gc_S → Prop} {σ : gc_S} {n c s : Nat} {a0 : Nat} {x1 : Int32} {x2 : Int32} (body : ∀ K, gc_K θ K (nX0_map (n + 1) c s) → gc_G θ K (nX0_map (n + 1) c s) (gc_Pi P) 0 [(0, va_rf (some a0)), (1, .int x1), (2, .int x2)] [] σ c s) : gx_C (gc_O θ) (nX0_map (n + 1) c s) [.ref a0, .int x1, .int x2] σ (gc_Pi P) :=
  gx_C.intro (gc_z_warm θ) rfl (Nat.le_of_ble_eq_true rfl) body
theorem bc_X0_map_0 {θ : gc_T} {K : gx_K} {P : Int32 → gc_S → Prop} {σ : gc_S} {x1 x2 : Int32} {a0 n c s bc bs : Nat} (h : gc_K θ K (nX0_map (n + 1) c s)) (k : ∃ c2 s2 : Nat, (c2 ≤ bc ∧ s2 ≤ bs) ∧ gc_is σ a0 0 ∧ gx_C (gc_O θ) (nX0_tree n c2 s2) (.ref a0 :: [.int x1]) σ (gc_Qr (fun r2 σ2 => ∃ c8 s8 : Nat, (c8 ≤ (bc - c2) ∧ s8 ≤ (bs - s2)) ∧ gc_is σ2 a0 0 ∧ gx_C (gc_O θ) (nX0_tree n c8 s8) (.ref a0 :: [.int x2]) σ2 (gc_Qr (fun r8 σ8 => gc_is σ8 a0 0 ∧ ∃ a20_1 : Nat, gc_R σ8 8 a0 = some a20_1 ∧ gc_is σ8 a20_1 4 ∧ gx_C (gc_O θ) (nX4_map n) (.ref a20_1 :: [va_rf r2, va_rf r8]) σ8 (gc_Pv (fun σ20 => gc_is σ20 a0 0 ∧ ∀ σ25, σ25 = gc_sI σ20 12 a0 1 → gc_is σ25 a0 0 ∧ ∀ σ30, σ30 = gc_sI σ25 13 a0 0 → gc_is σ30 a0 0 ∧ ∀ σ35, σ35 = gc_sI σ30 17 a0 0 → ∃ a40_2 : Nat, r2 = some a40_2 ∧ gc_is σ35 a40_2 7 ∧ ∃ a45_3 : Nat, r8 = some a45_3 ∧ gc_is σ35 a45_3 7 ∧ gc_is σ35 a0 0 ∧ ∀ σ49, σ49 = gc_sI σ35 14 a0 ((gc_I σ35 703 a40_2) + (gc_I σ35 703 a45_3)) → gc_G θ K (nX0_map (n + 1) c s) (gc_Pi P) 55 [(0, va_rf (some a0)), (3, va_rf r2), (4, va_rf r8), (5, .int 0)] [] σ49 ((bc - c2) - c8) ((bs - s2) - s8)))) (fun a8 σ8 => gc_is σ8 a8 1 ∧ gc_G θ K (nX0_map (n + 1) c s) (gc_Pi P) 297 [(0, va_rf (some a0))] [va_rf (some a8)] σ8 ((bc - c2) - c8) ((bs - s2) - s8)))) (fun a2 σ2 => gc_is σ2 a2 1 ∧ gc_G θ K (nX0_map (n + 1) c s) (gc_Pi P) 297 [(0, va_rf (some a0))] [va_rf (some a2)] σ2 (bc - c2) (bs - s2)))) : gc_G θ K (nX0_map (n + 1) c s) (gc_Pi P) 0 [(0, va_rf (some a0)), (1, .int x1), (2, .int x2)] [] σ bc bs := by
  refine gx_aload_nq (r := some a0) h 0 rfl dX0_map_0 ?_
  refine gx_iload_n h 1 rfl dX0_map_1 ?_
  obtain ⟨c2, s2, hb2, k⟩ := k
  refine gcc_X0_162 (r := some a0) (a0 := x1) h rfl ⟨Nat.le_refl _, Nat.le_refl _⟩ hb2 rfl k.1 (Nat.le_of_ble_eq_true rfl) dX0_map_2 (gx_C.mono k.2 ?_)
  rintro o σ2 (⟨r2, rfl, k⟩ | ⟨a2, rfl, k⟩)
  · refine Or.inl ⟨r2, rfl, ?_⟩
    refine gx_astore_nq (r := r2) (L' := [(3, va_rf r2), (0, va_rf (some a0)), (1, .int x1), (2, .int x2)]) h (Nat.le_of_ble_eq_true rfl) rfl dX0_map_5 ?_
    refine gx_aload_nq (r := some a0) h 1 rfl dX0_map_6 ?_
    refine gx_iload_n h 3 rfl dX0_map_7 ?_
    obtain ⟨c8, s8, hb8, k⟩ := k
    refine gcc_X0_162 (r := some a0) (a0 := x2) h rfl ⟨Nat.le_refl _, Nat.le_refl _⟩ hb8 rfl k.1 (Nat.le_of_ble_eq_true rfl) dX0_map_8 (gx_C.mono k.2 ?_)
    rintro o σ8 (⟨r8, rfl, k⟩ | ⟨a8, rfl, k⟩)
    · refine Or.inl ⟨r8, rfl, ?_⟩
      refine gx_astoreq (r := r8) (L' := [(4, va_rf r8), (3, va_rf r2), (0, va_rf (some a0)), (1, .int x1), (2, .int x2)]) h (Nat.le_of_ble_eq_true rfl) (by generalize r2 = z; cases z <;> rfl) dX0_map_11 ?_
      refine gx_aload_nq (r := some a0) h 2 rfl dX0_map_13 ?_
      refine gcg_X0_73 h rfl rfl k.1 dX0_map_14 ?_
      replace k := k.2
      refine gx_aload_nq (r := r2) h 1 rfl dX0_map_17 ?_
      refine gx_aloadq (r := r8) h 0 rfl dX0_map_18 ?_
      obtain ⟨a20_1, e20_1, k⟩ := k
      refine gcc_X0_275 (r := gc_R σ8 8 a0) (a0 := r2) (a1 := r8) h rfl ⟨Nat.le_refl _, Nat.le_refl _⟩ e20_1 k.1 (Nat.le_of_ble_eq_true rfl) dX0_map_20 (gx_C.mono k.2 ?_)
      rintro _ σ20 ⟨rfl, k⟩
      refine ⟨rfl, ?_⟩
      refine gx_aload_nq (r := some a0) h 2 rfl dX0_map_23 ?_
      refine gx_iconst (v := 1) h dX0_map_24 (by decide) ?_
      refine gcp_X0_279 (v := 1) h rfl rfl k.1 rfl rfl dX0_map_25 ?_
      generalize hz : gc_sI σ20 12 a0 1 = σ25
      replace k := k.2 σ25 hz.symm
      refine gx_aload_nq (r := some a0) h 2 rfl dX0_map_28 ?_
      refine gx_iconst (v := 0) h dX0_map_29 (by decide) ?_
      refine gcp_X0_283 (v := 0) h rfl rfl k.1 dX0_map_30 ?_
      generalize hz : gc_sI σ25 13 a0 0 = σ30
      replace k := k.2 σ30 hz.symm
      refine gx_aload_nq (r := some a0) h 2 rfl dX0_map_33 ?_
      refine gx_iconst (v := 0) h dX0_map_34 (by decide) ?_
      refine gcp_X0_272 (v := 0) h rfl rfl k.1 dX0_map_35 ?_
      generalize hz : gc_sI σ30 17 a0 0 = σ35
      replace k := k.2 σ35 hz.symm
      refine gx_aload_nq (r := some a0) h 2 rfl dX0_map_38 ?_
      refine gx_aload_nq (r := r2) h 1 rfl dX0_map_39 ?_
      obtain ⟨a40_2, e40_2, k⟩ := k
      refine gcg_X0_152 h rfl e40_2 k.1 dX0_map_40 ?_
      replace k := k.2
      refine gx_aloadq (r := r8) h 0 rfl dX0_map_43 ?_
      obtain ⟨a45_3, e45_3, k⟩ := k
      refine gcg_X0_152 h rfl e45_3 k.1 dX0_map_45 ?_
      replace k := k.2
      refine gx_iadd h dX0_map_48 ?_
      refine gcp_X0_286 (v := (gc_I σ35 703 a40_2) + (gc_I σ35 703 a45_3)) h rfl rfl k.1 dX0_map_49 ?_
      generalize hz : gc_sI σ35 14 a0 ((gc_I σ35 703 a40_2) + (gc_I σ35 703 a45_3)) = σ49
      replace k := k.2 σ49 hz.symm
      refine gx_iconst (v := 0) h dX0_map_52 (by decide) ?_
      refine gx_istore (L' := [(5, .int 0), (4, va_rf r8), (3, va_rf r2), (0, va_rf (some a0)), (1, .int x1), (2, .int x2)]) h (Nat.le_of_ble_eq_true rfl) (by generalize r8 = z; cases z <;> rfl) dX0_map_53 ?_
      exact gx_sub [3, 2, 1, 0] rfl k
    · refine Or.inr ⟨a8, rfl, ?_⟩
      refine gc_catchF h rfl q107 q109 [] ⟨0, 296, 297, 33⟩ [] rfl rfl rfl rfl k.1 ?_
      replace k := k.2
      exact gx_sub [1] rfl k
  · refine Or.inr ⟨a2, rfl, ?_⟩
    refine gc_catchF h rfl q107 q109 [] ⟨0, 296, 297, 33⟩ [] rfl rfl rfl rfl k.1 ?_
    replace k := k.2
    exact gx_sub [0] rfl k
theorem bc_X0_map_55 {θ : gc_T} {K : gx_K} {P : Int32 → gc_S → Prop} {σ : gc_S} {x5 : Int32} {x3 x4 : Option Nat} {a0 n c s bc bs : Nat} (h : gc_K θ K (nX0_map (n + 1) c s)) (k : ∃ a58_1 : Nat, x3 = some a58_1 ∧ gc_is σ a58_1 7 ∧ (((gc_I σ 703 a58_1) ≤ x5 → gc_G θ K (nX0_map (n + 1) c s) (gc_Pi P) 101 [(0, va_rf (some a0)), (3, va_rf x3), (4, va_rf x4), (5, .int 0)] [] σ bc bs) ∧ (¬ (gc_I σ 703 a58_1) ≤ x5 → gc_is σ a0 0 ∧ ∃ a68_2 : Nat, gc_R σ 8 a0 = some a68_2 ∧ gc_is σ a68_2 4 ∧ ∃ a73_3 : Nat, gc_R σ 405 a68_2 = some a73_3 ∧ gc_is σ a73_3 18 ∧ vp_in x5 (gc_n σ a73_3) ∧ ((gc_Q σ a73_3 x5.toNatClampNeg = none → gc_is σ a58_1 7 ∧ ∃ a85_4 : Nat, gc_R σ 701 a58_1 = some a85_4 ∧ gc_is σ a85_4 18 ∧ vp_in x5 (gc_n σ a85_4) ∧ ∃ a86_5 : Nat, gc_Q σ a85_4 x5.toNatClampNeg = some a86_5 ∧ gc_isN σ a86_5 ∧ gc_is σ a0 0 ∧ gx_C (gc_O θ) (nX0_does n) (.ref a0 :: [.int 3, .int (gc_I σ 800 a86_5)]) σ (gc_Pv (fun σ89 => gc_G θ K (nX0_map (n + 1) c s) (gc_Pi P) 92 [(0, va_rf (some a0)), (3, va_rf x3), (4, va_rf x4), (5, .int x5)] [] σ89 bc bs))) ∧ (¬ gc_Q σ a73_3 x5.toNatClampNeg = none → gc_G θ K (nX0_map (n + 1) c s) (gc_Pi P) 92 [(0, va_rf (some a0)), (3, va_rf x3), (4, va_rf x4), (5, .int x5)] [] σ bc bs))))) : gc_G θ K (nX0_map (n + 1) c s) (gc_Pi P) 55 [(0, va_rf (some a0)), (3, va_rf x3), (4, va_rf x4), (5, .int x5)] [] σ bc bs := by
  refine gx_iload h 3 rfl dX0_map_55 ?_
  refine gx_aload_nq (r := x3) h 1 rfl dX0_map_57 ?_
  obtain ⟨a58_1, e58_1, k⟩ := k
  refine gcg_X0_152 h rfl e58_1 k.1 dX0_map_58 ?_
  replace k := k.2
  refine gx_icmp_ge (tgt := 98) h (by decide) dX0_map_61 (fun c => ?_) (fun c => ?_)
  · replace k := k.1 c
    refine gx_iconst (v := 0) h dX0_map_98 (by decide) ?_
    refine gx_istore (L' := [(5, .int 0), (0, va_rf (some a0)), (3, va_rf x3), (4, va_rf x4)]) h (Nat.le_of_ble_eq_true rfl) (by generalize x4 = z; cases z <;> rfl) dX0_map_99 ?_
    exact gx_sub [1, 2, 3, 0] rfl k
  · replace k := k.2 c
    refine gx_aload_nq (r := some a0) h 0 rfl dX0_map_64 ?_
    refine gcg_X0_73 h rfl rfl k.1 dX0_map_65 ?_
    replace k := k.2
    obtain ⟨a68_2, e68_2, k⟩ := k
    refine gcg_X0_289 h rfl e68_2 k.1 dX0_map_68 ?_
    replace k := k.2
    refine gx_iload h 3 rfl dX0_map_71 ?_
    obtain ⟨a73_3, e73_3, k⟩ := k
    refine gc_aald18E (r := gc_R σ 405 a68_2) h e73_3 k.1 k.2.1 dX0_map_73 ?_
    replace k := k.2.2
    refine gx_ifnonnull (r := gc_Q σ a73_3 x5.toNatClampNeg) (tgt := 92) h (by decide) dX0_map_74 (fun c => ?_) (fun c => ?_)
    · replace k := k.2 c
      exact k
    · replace k := k.1 c
      refine gx_aload_nq (r := some a0) h 0 rfl dX0_map_77 ?_
      refine gx_iconst (v := 3) h dX0_map_78 (by decide) ?_
      refine gx_aload_nq (r := x3) h 1 rfl dX0_map_79 ?_
      refine gcg_X0_155 h rfl e58_1 k.1 dX0_map_80 ?_
      replace k := k.2
      refine gx_iload h 3 rfl dX0_map_83 ?_
      obtain ⟨a85_4, e85_4, k⟩ := k
      refine gc_aald18E (r := gc_R σ 701 a58_1) h e85_4 k.1 k.2.1 dX0_map_85 ?_
      replace k := k.2.2
      obtain ⟨a86_5, e86_5, k⟩ := k
      refine gcg_X0_118 h rfl e86_5 k.1 dX0_map_86 ?_
      replace k := k.2
      refine gcc_X0_292 (r := some a0) (a0 := 3) (a1 := gc_I σ 800 a86_5) h rfl ⟨Nat.le_refl _, Nat.le_refl _⟩ rfl k.1 (Nat.le_of_ble_eq_true rfl) dX0_map_89 (gx_C.mono k.2 ?_)
      rintro _ σ89 ⟨rfl, k⟩
      refine ⟨rfl, ?_⟩
      exact k
theorem bc_X0_map_92 {θ : gc_T} {K : gx_K} {P : Int32 → gc_S → Prop} {σ : gc_S} {x5 : Int32} {x3 x4 : Option Nat} {a0 n c s bc bs : Nat} (h : gc_K θ K (nX0_map (n + 1) c s)) (k : gc_G θ K (nX0_map (n + 1) c s) (gc_Pi P) 55 [(0, va_rf (some a0)), (3, va_rf x3), (4, va_rf x4), (5, .int (x5 + 1))] [] σ bc bs) : gc_G θ K (nX0_map (n + 1) c s) (gc_Pi P) 92 [(0, va_rf (some a0)), (3, va_rf x3), (4, va_rf x4), (5, .int x5)] [] σ bc bs := by
  refine gx_iinc (v := x5 + 1) (L' := [(5, .int (x5 + 1)), (0, va_rf (some a0)), (3, va_rf x3), (4, va_rf x4)]) h 3 rfl rfl (Nat.le_of_ble_eq_true rfl) (by generalize x4 = z; cases z <;> rfl) dX0_map_92 ?_
  refine gx_goto (tgt := 55) h (by decide) dX0_map_95 ?_
  exact gx_sub [1, 2, 3, 0] rfl k
theorem bc_X0_map_101 {θ : gc_T} {K : gx_K} {P : Int32 → gc_S → Prop} {σ : gc_S} {x5 : Int32} {x3 x4 : Option Nat} {a0 n c s bc bs : Nat} (h : gc_K θ K (nX0_map (n + 1) c s)) (k : ∃ a104_1 : Nat, x3 = some a104_1 ∧ gc_is σ a104_1 7 ∧ (((gc_I σ 703 a104_1) ≤ x5 → gc_G θ K (nX0_map (n + 1) c s) (gc_Pi P) 238 [(0, va_rf (some a0)), (4, va_rf x4), (5, .int 0)] [] σ bc bs) ∧ (¬ (gc_I σ 703 a104_1) ≤ x5 → gc_is σ a0 0 ∧ ∃ a114_2 : Nat, gc_R σ 8 a0 = some a114_2 ∧ gc_is σ a114_2 4 ∧ ∃ a119_3 : Nat, gc_R σ 405 a114_2 = some a119_3 ∧ gc_is σ a119_3 18 ∧ vp_in x5 (gc_n σ a119_3) ∧ ((gc_Q σ a119_3 x5.toNatClampNeg = none → gc_G θ K (nX0_map (n + 1) c s) (gc_Pi P) 229 [(0, va_rf (some a0)), (3, va_rf x3), (4, va_rf x4), (5, .int x5)] [] σ bc bs) ∧ (¬ gc_Q σ a119_3 x5.toNatClampNeg = none → gc_is σ a104_1 7 ∧ ∃ a136_4 : Nat, gc_R σ 701 a104_1 = some a136_4 ∧ gc_is σ a136_4 18 ∧ vp_in x5 (gc_n σ a136_4) ∧ gc_is σ a0 0 ∧ gc_is σ a0 0 ∧ ∃ a149_5 : Nat, gc_Q σ a136_4 x5.toNatClampNeg = some a149_5 ∧ gc_isN σ a149_5 ∧ ∃ a152_6 : Nat, gc_R σ 15 a0 = some a152_6 ∧ gc_is σ a152_6 14 ∧ vp_in (gc_I σ 13 a0) (gc_n σ a152_6) ∧ ∀ σ152, σ152 = gc_sE σ a152_6 (gc_I σ 13 a0).toNatClampNeg (gc_I σ 800 a149_5) → gc_is σ152 a0 0 ∧ gc_is σ152 a0 0 ∧ ∃ a163_7 : Nat, gc_Q σ a119_3 x5.toNatClampNeg = some a163_7 ∧ gc_isN σ152 a163_7 ∧ ∃ a166_8 : Nat, gc_R σ152 16 a0 = some a166_8 ∧ gc_is σ152 a166_8 14 ∧ vp_in (gc_I σ152 13 a0) (gc_n σ152 a166_8) ∧ ∀ σ166, σ166 = gc_sE σ152 a166_8 (gc_I σ152 13 a0).toNatClampNeg (gc_I σ152 800 a163_7) → gc_is σ166 a0 0 ∧ gc_is σ166 a0 0 ∧ ∀ σ174, σ174 = gc_sI σ166 13 a0 ((gc_I σ166 13 a0) + 1) → gc_isN σ174 a149_5 ∧ gc_isN σ174 a163_7 ∧ gx_C (gc_O θ) (nX0_isSame n) [va_rf (gc_R σ174 801 a149_5), va_rf (gc_R σ174 801 a163_7)] σ174 (gc_Pi (fun r187 σ187 => ((r187 = 0 → gc_isN σ187 a149_5 ∧ gc_is σ187 a0 0 ∧ gx_C (gc_O θ) (nX0_does n) (.ref a0 :: [.int 0, .int (gc_I σ187 800 a149_5)]) σ187 (gc_Pv (fun σ200 => gc_G θ K (nX0_map (n + 1) c s) (gc_Pi P) 203 [(0, va_rf (some a0)), (3, va_rf x3), (4, va_rf x4), (5, .int x5), (6, va_rf (gc_Q σ a119_3 x5.toNatClampNeg)), (7, va_rf (gc_Q σ a136_4 x5.toNatClampNeg))] [] σ200 bc bs))) ∧ (¬ r187 = 0 → gc_G θ K (nX0_map (n + 1) c s) (gc_Pi P) 203 [(0, va_rf (some a0)), (3, va_rf x3), (4, va_rf x4), (5, .int x5), (6, va_rf (gc_Q σ a119_3 x5.toNatClampNeg)), (7, va_rf (gc_Q σ a136_4 x5.toNatClampNeg))] [] σ187 bc bs))))))))) : gc_G θ K (nX0_map (n + 1) c s) (gc_Pi P) 101 [(0, va_rf (some a0)), (3, va_rf x3), (4, va_rf x4), (5, .int x5)] [] σ bc bs := by
  refine gx_iload h 3 rfl dX0_map_101 ?_
  refine gx_aload_nq (r := x3) h 1 rfl dX0_map_103 ?_
  obtain ⟨a104_1, e104_1, k⟩ := k
  refine gcg_X0_152 h rfl e104_1 k.1 dX0_map_104 ?_
  replace k := k.2
  refine gx_icmp_ge (tgt := 235) h (by decide) dX0_map_107 (fun c => ?_) (fun c => ?_)
  · replace k := k.1 c
    refine gx_iconst (v := 0) h dX0_map_235 (by decide) ?_
    refine gx_istore (L' := [(5, .int 0), (0, va_rf (some a0)), (3, va_rf x3), (4, va_rf x4)]) h (Nat.le_of_ble_eq_true rfl) (by generalize x4 = z; cases z <;> rfl) dX0_map_236 ?_
    exact gx_sub [1, 3, 0] rfl k
  · replace k := k.2 c
    refine gx_aload_nq (r := some a0) h 0 rfl dX0_map_110 ?_
    refine gcg_X0_73 h rfl rfl k.1 dX0_map_111 ?_
    replace k := k.2
    obtain ⟨a114_2, e114_2, k⟩ := k
    refine gcg_X0_289 h rfl e114_2 k.1 dX0_map_114 ?_
    replace k := k.2
    refine gx_iload h 3 rfl dX0_map_117 ?_
    obtain ⟨a119_3, e119_3, k⟩ := k
    refine gc_aald18E (r := gc_R σ 405 a114_2) h e119_3 k.1 k.2.1 dX0_map_119 ?_
    replace k := k.2.2
    refine gx_astoreq (r := gc_Q σ a119_3 x5.toNatClampNeg) (L' := [(6, va_rf (gc_Q σ a119_3 x5.toNatClampNeg)), (0, va_rf (some a0)), (3, va_rf x3), (4, va_rf x4), (5, .int x5)]) h (Nat.le_of_ble_eq_true rfl) rfl dX0_map_120 ?_
    refine gx_aloadq (r := gc_Q σ a119_3 x5.toNatClampNeg) h 0 rfl dX0_map_122 ?_
    refine gx_ifnonnull (r := gc_Q σ a119_3 x5.toNatClampNeg) (tgt := 130) h (by decide) dX0_map_124 (fun c => ?_) (fun c => ?_)
    · replace k := k.2 c
      refine gx_aload_nq (r := x3) h 2 rfl dX0_map_130 ?_
      refine gcg_X0_155 h rfl e104_1 k.1 dX0_map_131 ?_
      replace k := k.2
      refine gx_iload h 4 rfl dX0_map_134 ?_
      obtain ⟨a136_4, e136_4, k⟩ := k
      refine gc_aald18E (r := gc_R σ 701 a104_1) h e136_4 k.1 k.2.1 dX0_map_136 ?_
      replace k := k.2.2
      refine gx_astoreq (r := gc_Q σ a136_4 x5.toNatClampNeg) (L' := [(7, va_rf (gc_Q σ a136_4 x5.toNatClampNeg)), (6, va_rf (gc_Q σ a119_3 x5.toNatClampNeg)), (0, va_rf (some a0)), (3, va_rf x3), (4, va_rf x4), (5, .int x5)]) h (Nat.le_of_ble_eq_true rfl) (by generalize gc_Q σ a119_3 x5.toNatClampNeg = z; cases z <;> rfl) dX0_map_137 ?_
      refine gx_aload_nq (r := some a0) h 2 rfl dX0_map_139 ?_
      refine gcg_X0_91 h rfl rfl k.1 dX0_map_140 ?_
      replace k := k.2
      refine gx_aload_nq (r := some a0) h 2 rfl dX0_map_143 ?_
      refine gcg_X0_283 h rfl rfl k.1 dX0_map_144 ?_
      replace k := k.2
      refine gx_aloadq (r := gc_Q σ a136_4 x5.toNatClampNeg) h 0 rfl dX0_map_147 ?_
      obtain ⟨a149_5, e149_5, k⟩ := k
      refine gcg_X0_118 h rfl e149_5 k.1 dX0_map_149 ?_
      replace k := k.2
      obtain ⟨a152_6, e152_6, k⟩ := k
      refine gc_iastE (r := gc_R σ 15 a0) h e152_6 k.1 k.2.1 dX0_map_152 ?_
      generalize hz : gc_sE σ a152_6 (gc_I σ 13 a0).toNatClampNeg (gc_I σ 800 a149_5) = σ152
      replace k := k.2.2 σ152 hz.symm
      refine gx_aload_nq (r := some a0) h 2 rfl dX0_map_153 ?_
      refine gcg_X0_94 h rfl rfl k.1 dX0_map_154 ?_
      replace k := k.2
      refine gx_aload_nq (r := some a0) h 2 rfl dX0_map_157 ?_
      refine gcg_X0_283 h rfl rfl k.1 dX0_map_158 ?_
      replace k := k.2
      refine gx_aloadq (r := gc_Q σ a119_3 x5.toNatClampNeg) h 1 rfl dX0_map_161 ?_
      obtain ⟨a163_7, e163_7, k⟩ := k
      refine gcg_X0_118 h rfl e163_7 k.1 dX0_map_163 ?_
      replace k := k.2
      obtain ⟨a166_8, e166_8, k⟩ := k
      refine gc_iastE (r := gc_R σ152 16 a0) h e166_8 k.1 k.2.1 dX0_map_166 ?_
      generalize hz : gc_sE σ152 a166_8 (gc_I σ152 13 a0).toNatClampNeg (gc_I σ152 800 a163_7) = σ166
      replace k := k.2.2 σ166 hz.symm
      refine gx_aload_nq (r := some a0) h 2 rfl dX0_map_167 ?_
      refine gx_dup h rfl dX0_map_168 ?_
      refine gcg_X0_283 h rfl rfl k.1 dX0_map_169 ?_
      replace k := k.2
      refine gx_iconst (v := 1) h dX0_map_172 (by decide) ?_
      refine gx_iadd h dX0_map_173 ?_
      refine gcp_X0_283 (v := (gc_I σ166 13 a0) + 1) h rfl rfl k.1 dX0_map_174 ?_
      generalize hz : gc_sI σ166 13 a0 ((gc_I σ166 13 a0) + 1) = σ174
      replace k := k.2 σ174 hz.symm
      refine gx_aloadq (r := gc_Q σ a136_4 x5.toNatClampNeg) h 0 rfl dX0_map_177 ?_
      refine gcg_X0_201 h rfl e149_5 k.1 dX0_map_179 ?_
      replace k := k.2
      refine gx_aloadq (r := gc_Q σ a119_3 x5.toNatClampNeg) h 1 rfl dX0_map_182 ?_
      refine gcg_X0_201 h rfl e163_7 k.1 dX0_map_184 ?_
      replace k := k.2
      refine gcc_X0_296 (a0 := gc_R σ174 801 a149_5) (a1 := gc_R σ174 801 a163_7) h rfl ⟨Nat.le_refl _, Nat.le_refl _⟩ (Nat.le_of_ble_eq_true rfl) dX0_map_187 (gx_C.mono k ?_)
      rintro _ σ187 ⟨r187, rfl, k⟩
      refine ⟨r187, rfl, ?_⟩
      refine gx_if_ne (tgt := 203) h (by decide) dX0_map_190 (fun c => ?_) (fun c => ?_)
      · replace k := k.2 c
        exact gx_sub [2, 3, 4, 5, 1, 0] rfl k
      · replace k := k.1 c
        refine gx_aload_nq (r := some a0) h 2 rfl dX0_map_193 ?_
        refine gx_iconst (v := 0) h dX0_map_194 (by decide) ?_
        refine gx_aloadq (r := gc_Q σ a136_4 x5.toNatClampNeg) h 0 rfl dX0_map_195 ?_
        refine gcg_X0_118 h rfl e149_5 k.1 dX0_map_197 ?_
        replace k := k.2
        refine gcc_X0_292 (r := some a0) (a0 := 0) (a1 := gc_I σ187 800 a149_5) h rfl ⟨Nat.le_refl _, Nat.le_refl _⟩ rfl k.1 (Nat.le_of_ble_eq_true rfl) dX0_map_200 (gx_C.mono k.2 ?_)
        rintro _ σ200 ⟨rfl, k⟩
        refine ⟨rfl, ?_⟩
        exact gx_sub [2, 3, 4, 5, 1, 0] rfl k
    · replace k := k.1 c
      refine gx_goto (tgt := 229) h (by decide) dX0_map_127 ?_
      exact gx_sub [1, 2, 3, 4] rfl k
theorem bc_X0_map_203 {θ : gc_T} {K : gx_K} {P : Int32 → gc_S → Prop} {σ : gc_S} {x5 : Int32} {x3 x4 x6 x7 : Option Nat} {a0 n c s bc bs : Nat} (h : gc_K θ K (nX0_map (n + 1) c s)) (k : ∃ a205_1 : Nat, x7 = some a205_1 ∧ gc_isN σ a205_1 ∧ ∃ a210_2 : Nat, x6 = some a210_2 ∧ gc_isN σ a210_2 ∧ gx_C (gc_O θ) (nX0_isSame n) [va_rf (gc_R σ 802 a205_1), va_rf (gc_R σ 802 a210_2)] σ (gc_Pi (fun r213 σ213 => ((r213 = 0 → gc_isN σ213 a205_1 ∧ gc_is σ213 a0 0 ∧ gx_C (gc_O θ) (nX0_does n) (.ref a0 :: [.int 1, .int (gc_I σ213 800 a205_1)]) σ213 (gc_Pv (fun σ226 => gc_G θ K (nX0_map (n + 1) c s) (gc_Pi P) 229 [(0, va_rf (some a0)), (3, va_rf x3), (4, va_rf x4), (5, .int x5)] [] σ226 bc bs))) ∧ (¬ r213 = 0 → gc_G θ K (nX0_map (n + 1) c s) (gc_Pi P) 229 [(0, va_rf (some a0)), (3, va_rf x3), (4, va_rf x4), (5, .int x5)] [] σ213 bc bs))))) : gc_G θ K (nX0_map (n + 1) c s) (gc_Pi P) 203 [(0, va_rf (some a0)), (3, va_rf x3), (4, va_rf x4), (5, .int x5), (6, va_rf x6), (7, va_rf x7)] [] σ bc bs := by
  refine gx_aloadq (r := x7) h 5 rfl dX0_map_203 ?_
  obtain ⟨a205_1, e205_1, k⟩ := k
  refine gcg_X0_204 h rfl e205_1 k.1 dX0_map_205 ?_
  replace k := k.2
  refine gx_aloadq (r := x6) h 4 rfl dX0_map_208 ?_
  obtain ⟨a210_2, e210_2, k⟩ := k
  refine gcg_X0_204 h rfl e210_2 k.1 dX0_map_210 ?_
  replace k := k.2
  refine gcc_X0_296 (a0 := gc_R σ 802 a205_1) (a1 := gc_R σ 802 a210_2) h rfl ⟨Nat.le_refl _, Nat.le_refl _⟩ (Nat.le_of_ble_eq_true rfl) dX0_map_213 (gx_C.mono k ?_)
  rintro _ σ213 ⟨r213, rfl, k⟩
  refine ⟨r213, rfl, ?_⟩
  refine gx_if_ne (tgt := 229) h (by decide) dX0_map_216 (fun c => ?_) (fun c => ?_)
  · replace k := k.2 c
    exact gx_sub [0, 1, 2, 3] rfl k
  · replace k := k.1 c
    refine gx_aload_nq (r := some a0) h 0 rfl dX0_map_219 ?_
    refine gx_iconst (v := 1) h dX0_map_220 (by decide) ?_
    refine gx_aloadq (r := x7) h 5 rfl dX0_map_221 ?_
    refine gcg_X0_118 h rfl e205_1 k.1 dX0_map_223 ?_
    replace k := k.2
    refine gcc_X0_292 (r := some a0) (a0 := 1) (a1 := gc_I σ213 800 a205_1) h rfl ⟨Nat.le_refl _, Nat.le_refl _⟩ rfl k.1 (Nat.le_of_ble_eq_true rfl) dX0_map_226 (gx_C.mono k.2 ?_)
    rintro _ σ226 ⟨rfl, k⟩
    refine ⟨rfl, ?_⟩
    exact gx_sub [0, 1, 2, 3] rfl k
theorem bc_X0_map_229 {θ : gc_T} {K : gx_K} {P : Int32 → gc_S → Prop} {σ : gc_S} {x5 : Int32} {x3 x4 : Option Nat} {a0 n c s bc bs : Nat} (h : gc_K θ K (nX0_map (n + 1) c s)) (k : gc_G θ K (nX0_map (n + 1) c s) (gc_Pi P) 101 [(0, va_rf (some a0)), (3, va_rf x3), (4, va_rf x4), (5, .int (x5 + 1))] [] σ bc bs) : gc_G θ K (nX0_map (n + 1) c s) (gc_Pi P) 229 [(0, va_rf (some a0)), (3, va_rf x3), (4, va_rf x4), (5, .int x5)] [] σ bc bs := by
  refine gx_iinc (v := x5 + 1) (L' := [(5, .int (x5 + 1)), (0, va_rf (some a0)), (3, va_rf x3), (4, va_rf x4)]) h 3 rfl rfl (Nat.le_of_ble_eq_true rfl) (by generalize x4 = z; cases z <;> rfl) dX0_map_229 ?_
  refine gx_goto (tgt := 101) h (by decide) dX0_map_232 ?_
  exact gx_sub [1, 2, 3, 0] rfl k
theorem bc_X0_map_238 {θ : gc_T} {K : gx_K} {P : Int32 → gc_S → Prop} {σ : gc_S} {x5 : Int32} {x4 : Option Nat} {a0 n c s bc bs : Nat} (h : gc_K θ K (nX0_map (n + 1) c s)) (k : ∃ a242_1 : Nat, x4 = some a242_1 ∧ gc_is σ a242_1 7 ∧ (((gc_I σ 703 a242_1) ≤ x5 → gc_is σ a0 0 ∧ P (gc_I σ 13 a0) σ) ∧ (¬ (gc_I σ 703 a242_1) ≤ x5 → gc_is σ a0 0 ∧ ∃ a252_2 : Nat, gc_R σ 8 a0 = some a252_2 ∧ gc_is σ a252_2 4 ∧ gc_is σ a242_1 7 ∧ ∃ a262_3 : Nat, gc_R σ 702 a242_1 = some a262_3 ∧ gc_is σ a262_3 18 ∧ vp_in x5 (gc_n σ a262_3) ∧ ∃ a263_4 : Nat, gc_Q σ a262_3 x5.toNatClampNeg = some a263_4 ∧ gc_isN σ a263_4 ∧ ∃ a266_5 : Nat, gc_R σ 406 a252_2 = some a266_5 ∧ gc_is σ a266_5 16 ∧ vp_in (gc_I σ 805 a263_4) (gc_n σ a266_5) ∧ (((gc_E σ a266_5 (gc_I σ 805 a263_4).toNatClampNeg) = 0 → gc_is σ a242_1 7 ∧ gc_is σ a262_3 18 ∧ vp_in x5 (gc_n σ a262_3) ∧ gc_isN σ a263_4 ∧ gc_is σ a0 0 ∧ gx_C (gc_O θ) (nX0_does n) (.ref a0 :: [.int 2, .int (gc_I σ 800 a263_4)]) σ (gc_Pv (fun σ283 => gc_G θ K (nX0_map (n + 1) c s) (gc_Pi P) 286 [(0, va_rf (some a0)), (4, va_rf x4), (5, .int x5)] [] σ283 bc bs))) ∧ (¬ (gc_E σ a266_5 (gc_I σ 805 a263_4).toNatClampNeg) = 0 → gc_G θ K (nX0_map (n + 1) c s) (gc_Pi P) 286 [(0, va_rf (some a0)), (4, va_rf x4), (5, .int x5)] [] σ bc bs))))) : gc_G θ K (nX0_map (n + 1) c s) (gc_Pi P) 238 [(0, va_rf (some a0)), (4, va_rf x4), (5, .int x5)] [] σ bc bs := by
  refine gx_iload h 2 rfl dX0_map_238 ?_
  refine gx_aloadq (r := x4) h 1 rfl dX0_map_240 ?_
  obtain ⟨a242_1, e242_1, k⟩ := k
  refine gcg_X0_152 h rfl e242_1 k.1 dX0_map_242 ?_
  replace k := k.2
  refine gx_icmp_ge (tgt := 292) h (by decide) dX0_map_245 (fun c => ?_) (fun c => ?_)
  · replace k := k.1 c
    refine gx_aload_nq (r := some a0) h 0 rfl dX0_map_292 ?_
    refine gcg_X0_283 h rfl rfl k.1 dX0_map_293 ?_
    replace k := k.2
    exact gx_iret h rfl dX0_map_296 (⟨_, rfl, k⟩)
  · replace k := k.2 c
    refine gx_aload_nq (r := some a0) h 0 rfl dX0_map_248 ?_
    refine gcg_X0_73 h rfl rfl k.1 dX0_map_249 ?_
    replace k := k.2
    obtain ⟨a252_2, e252_2, k⟩ := k
    refine gcg_X0_300 h rfl e252_2 k.1 dX0_map_252 ?_
    replace k := k.2
    refine gx_aloadq (r := x4) h 1 rfl dX0_map_255 ?_
    refine gcg_X0_304 h rfl e242_1 k.1 dX0_map_257 ?_
    replace k := k.2
    refine gx_iload h 2 rfl dX0_map_260 ?_
    obtain ⟨a262_3, e262_3, k⟩ := k
    refine gc_aald18E (r := gc_R σ 702 a242_1) h e262_3 k.1 k.2.1 dX0_map_262 ?_
    replace k := k.2.2
    obtain ⟨a263_4, e263_4, k⟩ := k
    refine gcg_X0_306 h rfl e263_4 k.1 dX0_map_263 ?_
    replace k := k.2
    obtain ⟨a266_5, e266_5, k⟩ := k
    refine gc_zaldE (r := gc_R σ 406 a252_2) h e266_5 k.1 k.2.1 dX0_map_266 ?_
    replace k := k.2.2
    refine gx_if_ne (tgt := 286) h (by decide) dX0_map_267 (fun c => ?_) (fun c => ?_)
    · replace k := k.2 c
      exact k
    · replace k := k.1 c
      refine gx_aload_nq (r := some a0) h 0 rfl dX0_map_270 ?_
      refine gx_iconst (v := 2) h dX0_map_271 (by decide) ?_
      refine gx_aloadq (r := x4) h 1 rfl dX0_map_272 ?_
      refine gcg_X0_304 h rfl e242_1 k.1 dX0_map_274 ?_
      replace k := k.2
      refine gx_iload h 2 rfl dX0_map_277 ?_
      refine gc_aald18E (r := gc_R σ 702 a242_1) h e262_3 k.1 k.2.1 dX0_map_279 ?_
      replace k := k.2.2
      refine gcg_X0_118 h rfl e263_4 k.1 dX0_map_280 ?_
      replace k := k.2
      refine gcc_X0_292 (r := some a0) (a0 := 2) (a1 := gc_I σ 800 a263_4) h rfl ⟨Nat.le_refl _, Nat.le_refl _⟩ rfl k.1 (Nat.le_of_ble_eq_true rfl) dX0_map_283 (gx_C.mono k.2 ?_)
      rintro _ σ283 ⟨rfl, k⟩
      refine ⟨rfl, ?_⟩
      exact k
theorem bc_X0_map_286 {θ : gc_T} {K : gx_K} {P : Int32 → gc_S → Prop} {σ : gc_S} {x5 : Int32} {x4 : Option Nat} {a0 n c s bc bs : Nat} (h : gc_K θ K (nX0_map (n + 1) c s)) (k : gc_G θ K (nX0_map (n + 1) c s) (gc_Pi P) 238 [(0, va_rf (some a0)), (4, va_rf x4), (5, .int (x5 + 1))] [] σ bc bs) : gc_G θ K (nX0_map (n + 1) c s) (gc_Pi P) 286 [(0, va_rf (some a0)), (4, va_rf x4), (5, .int x5)] [] σ bc bs := by
  refine gx_iinc (v := x5 + 1) (L' := [(5, .int (x5 + 1)), (0, va_rf (some a0)), (4, va_rf x4)]) h 2 rfl rfl (Nat.le_of_ble_eq_true rfl) (by generalize x4 = z; cases z <;> rfl) dX0_map_286 ?_
  refine gx_goto (tgt := 238) h (by decide) dX0_map_289 ?_
  exact gx_sub [1, 2, 0] rfl k
theorem bc_X0_map_297 {θ : gc_T} {K : gx_K} {P : Int32 → gc_S → Prop} {σ : gc_S} {a0 s0 n c s bc bs : Nat} (h : gc_K θ K (nX0_map (n + 1) c s)) (k : gc_is σ a0 0 ∧ gx_C (gc_O θ) (nX0_finds n) (.ref a0 :: [va_rf (some s0)]) σ (gc_Pi (fun r300 σ300 => P r300 σ300))) : gc_G θ K (nX0_map (n + 1) c s) (gc_Pi P) 297 [(0, va_rf (some a0))] [va_rf (some s0)] σ bc bs := by
  refine gx_astore_nq (r := some s0) (L' := [(3, va_rf (some s0)), (0, va_rf (some a0))]) h (Nat.le_of_ble_eq_true rfl) rfl dX0_map_297 ?_
  refine gx_aload_nq (r := some a0) h 1 rfl dX0_map_298 ?_
  refine gx_aload_nq (r := some s0) h 0 rfl dX0_map_299 ?_
  refine gcc_X0_138 (r := some a0) (a0 := some s0) h rfl ⟨Nat.le_refl _, Nat.le_refl _⟩ rfl k.1 (Nat.le_of_ble_eq_true rfl) dX0_map_300 (gx_C.mono k.2 ?_)
  rintro _ σ300 ⟨r300, rfl, k⟩
  refine ⟨r300, rfl, ?_⟩
  exact gx_iret h rfl dX0_map_303 (⟨_, rfl, k⟩)
/-! X0.does -/
theorem ec_X0_does {θ : gc_T} {P : gc_S → Prop} {σ : gc_S} {n : Nat} {a0 : Nat} {x1 : Int32} {x2 : Int32} (body : ∀ K, gc_K θ K (nX0_does n) → gc_G θ K (nX0_does n) (gc_Pv P) 0 [(0, va_rf (some a0)), (1, .int x1), (2, .int x2)] [] σ 0 0) : gx_C (gc_O θ) (nX0_does n) [.ref a0, .int x1, .int x2] σ (gc_Pv P) :=
  gx_C.intro (gc_z_warm θ) rfl (Nat.le_of_ble_eq_true rfl) body
theorem bc_X0_does_0 {θ : gc_T} {K : gx_K} {P : gc_S → Prop} {σ : gc_S} {x1 x2 : Int32} {a0 n bc bs : Nat} (h : gc_K θ K (nX0_does n)) (k : gc_is σ a0 0 ∧ gc_is σ a0 0 ∧ ∃ a9_1 : Nat, gc_R σ 18 a0 = some a9_1 ∧ gc_is σ a9_1 14 ∧ vp_in (gc_I σ 17 a0) (gc_n σ a9_1) ∧ ∀ σ9, σ9 = gc_sE σ a9_1 (gc_I σ 17 a0).toNatClampNeg x1 → gc_is σ9 a0 0 ∧ gc_is σ9 a0 0 ∧ ∃ a19_2 : Nat, gc_R σ9 19 a0 = some a19_2 ∧ gc_is σ9 a19_2 14 ∧ vp_in (gc_I σ9 17 a0) (gc_n σ9 a19_2) ∧ ∀ σ19, σ19 = gc_sE σ9 a19_2 (gc_I σ9 17 a0).toNatClampNeg x2 → gc_is σ19 a0 0 ∧ gc_is σ19 a0 0 ∧ gc_is σ19 a0 0 ∧ ∃ a32_3 : Nat, gc_R σ19 8 a0 = some a32_3 ∧ gc_is σ19 a32_3 4 ∧ ∃ a36_4 : Nat, gc_R σ19 400 a32_3 = some a36_4 ∧ gc_is σ19 a36_4 14 ∧ vp_in x1 (gc_n σ19 a36_4) ∧ ∃ a37_5 : Nat, gc_R σ19 20 a0 = some a37_5 ∧ gc_is σ19 a37_5 14 ∧ vp_in (gc_I σ19 17 a0) (gc_n σ19 a37_5) ∧ ∀ σ37, σ37 = gc_sE σ19 a37_5 (gc_I σ19 17 a0).toNatClampNeg (gc_E σ19 a36_4 x1.toNatClampNeg) → gc_is σ37 a0 0 ∧ gc_is σ37 a0 0 ∧ ∀ σ45, σ45 = gc_sI σ37 17 a0 ((gc_I σ37 17 a0) + 1) → P σ45) : gc_G θ K (nX0_does n) (gc_Pv P) 0 [(0, va_rf (some a0)), (1, .int x1), (2, .int x2)] [] σ bc bs := by
  refine gx_aload_nq (r := some a0) h 0 rfl dX0_does_0 ?_
  refine gcg_X0_97 h rfl rfl k.1 dX0_does_1 ?_
  replace k := k.2
  refine gx_aload_nq (r := some a0) h 0 rfl dX0_does_4 ?_
  refine gcg_X0_272 h rfl rfl k.1 dX0_does_5 ?_
  replace k := k.2
  refine gx_iload_n h 1 rfl dX0_does_8 ?_
  obtain ⟨a9_1, e9_1, k⟩ := k
  refine gc_iastE (r := gc_R σ 18 a0) h e9_1 k.1 k.2.1 dX0_does_9 ?_
  generalize hz : gc_sE σ a9_1 (gc_I σ 17 a0).toNatClampNeg x1 = σ9
  replace k := k.2.2 σ9 hz.symm
  refine gx_aload_nq (r := some a0) h 0 rfl dX0_does_10 ?_
  refine gcg_X0_100 h rfl rfl k.1 dX0_does_11 ?_
  replace k := k.2
  refine gx_aload_nq (r := some a0) h 0 rfl dX0_does_14 ?_
  refine gcg_X0_272 h rfl rfl k.1 dX0_does_15 ?_
  replace k := k.2
  refine gx_iload_n h 2 rfl dX0_does_18 ?_
  obtain ⟨a19_2, e19_2, k⟩ := k
  refine gc_iastE (r := gc_R σ9 19 a0) h e19_2 k.1 k.2.1 dX0_does_19 ?_
  generalize hz : gc_sE σ9 a19_2 (gc_I σ9 17 a0).toNatClampNeg x2 = σ19
  replace k := k.2.2 σ19 hz.symm
  refine gx_aload_nq (r := some a0) h 0 rfl dX0_does_20 ?_
  refine gcg_X0_103 h rfl rfl k.1 dX0_does_21 ?_
  replace k := k.2
  refine gx_aload_nq (r := some a0) h 0 rfl dX0_does_24 ?_
  refine gcg_X0_272 h rfl rfl k.1 dX0_does_25 ?_
  replace k := k.2
  refine gx_aload_nq (r := some a0) h 0 rfl dX0_does_28 ?_
  refine gcg_X0_73 h rfl rfl k.1 dX0_does_29 ?_
  replace k := k.2
  obtain ⟨a32_3, e32_3, k⟩ := k
  refine gcg_X0_265 h rfl e32_3 k.1 dX0_does_32 ?_
  replace k := k.2
  refine gx_iload_n h 1 rfl dX0_does_35 ?_
  obtain ⟨a36_4, e36_4, k⟩ := k
  refine gc_ialdE (r := gc_R σ19 400 a32_3) h e36_4 k.1 k.2.1 dX0_does_36 ?_
  replace k := k.2.2
  obtain ⟨a37_5, e37_5, k⟩ := k
  refine gc_iastE (r := gc_R σ19 20 a0) h e37_5 k.1 k.2.1 dX0_does_37 ?_
  generalize hz : gc_sE σ19 a37_5 (gc_I σ19 17 a0).toNatClampNeg (gc_E σ19 a36_4 x1.toNatClampNeg) = σ37
  replace k := k.2.2 σ37 hz.symm
  refine gx_aload_nq (r := some a0) h 0 rfl dX0_does_38 ?_
  refine gx_dup h rfl dX0_does_39 ?_
  refine gcg_X0_272 h rfl rfl k.1 dX0_does_40 ?_
  replace k := k.2
  refine gx_iconst (v := 1) h dX0_does_43 (by decide) ?_
  refine gx_iadd h dX0_does_44 ?_
  refine gcp_X0_272 (v := (gc_I σ37 17 a0) + 1) h rfl rfl k.1 dX0_does_45 ?_
  generalize hz : gc_sI σ37 17 a0 ((gc_I σ37 17 a0) + 1) = σ45
  replace k := k.2 σ45 hz.symm
  exact gx_vret h rfl dX0_does_48 (⟨rfl, k⟩)
/-! X0.pair -/
theorem ec_X0_pair {θ : gc_T} {P : Int32 → gc_S → Prop} {σ : gc_S} {n : Nat} {a0 : Nat} {x1 : Int32} {x2 : Int32} (body : ∀ K, gc_K θ K (nX0_pair (n + 1)) → gc_G θ K (nX0_pair (n + 1)) (gc_Pi P) 0 [(0, va_rf (some a0)), (1, .int x1), (2, .int x2)] [] σ 0 0) : gx_C (gc_O θ) (nX0_pair (n + 1)) [.ref a0, .int x1, .int x2] σ (gc_Pi P) :=
  gx_C.intro (gc_z_warm θ) rfl (Nat.le_of_ble_eq_true rfl) body
theorem bc_X0_pair_0 {θ : gc_T} {K : gx_K} {P : Int32 → gc_S → Prop} {σ : gc_S} {x1 x2 : Int32} {a0 n bc bs : Nat} (h : gc_K θ K (nX0_pair (n + 1))) (k : ((x1 < 0 → gc_G θ K (nX0_pair (n + 1)) (gc_Pi P) 17 [(0, va_rf (some a0)), (1, .int x1), (2, .int x2)] [va_rf (some a0)] σ bc bs) ∧ (¬ x1 < 0 → gc_is σ a0 0 ∧ (((gc_I σ 13 a0) ≤ x1 → gc_G θ K (nX0_pair (n + 1)) (gc_Pi P) 17 [(0, va_rf (some a0)), (1, .int x1), (2, .int x2)] [va_rf (some a0)] σ bc bs) ∧ (¬ (gc_I σ 13 a0) ≤ x1 → gc_G θ K (nX0_pair (n + 1)) (gc_Pi P) 18 [(0, va_rf (some a0)), (1, .int x1), (2, .int x2)] [.int 1, va_rf (some a0)] σ bc bs))))) : gc_G θ K (nX0_pair (n + 1)) (gc_Pi P) 0 [(0, va_rf (some a0)), (1, .int x1), (2, .int x2)] [] σ bc bs := by
  refine gx_aload_nq (r := some a0) h 0 rfl dX0_pair_0 ?_
  refine gx_iload_n h 1 rfl dX0_pair_1 ?_
  refine gx_if_lt (tgt := 17) h (by decide) dX0_pair_2 (fun c => ?_) (fun c => ?_)
  · replace k := k.1 c
    exact k
  · replace k := k.2 c
    refine gx_iload_n h 1 rfl dX0_pair_5 ?_
    refine gx_aload_nq (r := some a0) h 0 rfl dX0_pair_6 ?_
    refine gcg_X0_283 h rfl rfl k.1 dX0_pair_7 ?_
    replace k := k.2
    refine gx_icmp_ge (tgt := 17) h (by decide) dX0_pair_10 (fun c => ?_) (fun c => ?_)
    · replace k := k.1 c
      exact k
    · replace k := k.2 c
      refine gx_iconst (v := 1) h dX0_pair_13 (by decide) ?_
      refine gx_goto (tgt := 18) h (by decide) dX0_pair_14 ?_
      exact k
theorem bc_X0_pair_17 {θ : gc_T} {K : gx_K} {P : Int32 → gc_S → Prop} {σ : gc_S} {x1 x2 : Int32} {s0 : Option Nat} {a0 n bc bs : Nat} (h : gc_K θ K (nX0_pair (n + 1))) (k : gc_G θ K (nX0_pair (n + 1)) (gc_Pi P) 18 [(0, va_rf (some a0)), (1, .int x1), (2, .int x2)] [.int 0, va_rf s0] σ bc bs) : gc_G θ K (nX0_pair (n + 1)) (gc_Pi P) 17 [(0, va_rf (some a0)), (1, .int x1), (2, .int x2)] [va_rf s0] σ bc bs := by
  refine gx_iconst (v := 0) h dX0_pair_17 (by decide) ?_
  exact k
theorem bc_X0_pair_18 {θ : gc_T} {K : gx_K} {P : Int32 → gc_S → Prop} {σ : gc_S} {x1 x2 s0 : Int32} {s1 : Option Nat} {a0 n bc bs : Nat} (h : gc_K θ K (nX0_pair (n + 1))) (k : ∃ a20_1 : Nat, s1 = some a20_1 ∧ gc_is σ a20_1 0 ∧ gx_C (gc_O θ) (nX0_need n) (.ref a20_1 :: [.int s0, .int (-6)]) σ (gc_Qv (fun σ20 => ((x2 = 0 → gc_G θ K (nX0_pair (n + 1)) (gc_Pi P) 33 [(0, va_rf (some a0)), (1, .int x1), (2, .int x2)] [va_rf (some a0)] σ20 bc bs) ∧ (¬ x2 = 0 → ((x2 = 1 → gc_G θ K (nX0_pair (n + 1)) (gc_Pi P) 33 [(0, va_rf (some a0)), (1, .int x1), (2, .int x2)] [va_rf (some a0)] σ20 bc bs) ∧ (¬ x2 = 1 → gc_G θ K (nX0_pair (n + 1)) (gc_Pi P) 38 [(0, va_rf (some a0)), (1, .int x1), (2, .int x2)] [.int 0, va_rf (some a0)] σ20 bc bs))))) (fun a20 σ20 => gc_is σ20 a20 1 ∧ gc_G θ K (nX0_pair (n + 1)) (gc_Pi P) 62 [(0, va_rf (some a0))] [va_rf (some a20)] σ20 bc bs))) : gc_G θ K (nX0_pair (n + 1)) (gc_Pi P) 18 [(0, va_rf (some a0)), (1, .int x1), (2, .int x2)] [.int s0, va_rf s1] σ bc bs := by
  refine gx_bipush (v := (-6)) h dX0_pair_18 (by decide) ?_
  obtain ⟨a20_1, e20_1, k⟩ := k
  refine gcc_X0_131 (r := s1) (a0 := s0) (a1 := (-6)) h rfl ⟨Nat.le_refl _, Nat.le_refl _⟩ e20_1 k.1 (Nat.le_of_ble_eq_true rfl) dX0_pair_20 (gx_C.mono k.2 ?_)
  rintro o σ20 (⟨rfl, k⟩ | ⟨a20, rfl, k⟩)
  · refine Or.inl ⟨rfl, ?_⟩
    refine gx_aload_nq (r := some a0) h 0 rfl dX0_pair_23 ?_
    refine gx_iload_n h 2 rfl dX0_pair_24 ?_
    refine gx_if_eq (tgt := 33) h (by decide) dX0_pair_25 (fun c => ?_) (fun c => ?_)
    · replace k := k.1 c
      exact k
    · replace k := k.2 c
      refine gx_iload_n h 2 rfl dX0_pair_28 ?_
      refine gx_iconst (v := 1) h dX0_pair_29 (by decide) ?_
      refine gx_icmp_ne (tgt := 37) h (by decide) dX0_pair_30 (fun c => ?_) (fun c => ?_)
      · replace k := k.2 c
        refine gx_iconst (v := 0) h dX0_pair_37 (by decide) ?_
        exact k
      · replace k := k.1 c
        exact k
  · refine Or.inr ⟨a20, rfl, ?_⟩
    refine gc_catchF h rfl q107 q109 [] ⟨0, 61, 62, 33⟩ [] rfl rfl rfl rfl k.1 ?_
    replace k := k.2
    exact gx_sub [0] rfl k
theorem bc_X0_pair_33 {θ : gc_T} {K : gx_K} {P : Int32 → gc_S → Prop} {σ : gc_S} {x1 x2 : Int32} {s0 : Option Nat} {a0 n bc bs : Nat} (h : gc_K θ K (nX0_pair (n + 1))) (k : gc_G θ K (nX0_pair (n + 1)) (gc_Pi P) 38 [(0, va_rf (some a0)), (1, .int x1), (2, .int x2)] [.int 1, va_rf s0] σ bc bs) : gc_G θ K (nX0_pair (n + 1)) (gc_Pi P) 33 [(0, va_rf (some a0)), (1, .int x1), (2, .int x2)] [va_rf s0] σ bc bs := by
  refine gx_iconst (v := 1) h dX0_pair_33 (by decide) ?_
  refine gx_goto (tgt := 38) h (by decide) dX0_pair_34 ?_
  exact k
theorem bc_X0_pair_38 {θ : gc_T} {K : gx_K} {P : Int32 → gc_S → Prop} {σ : gc_S} {x1 x2 s0 : Int32} {s1 : Option Nat} {a0 n bc bs : Nat} (h : gc_K θ K (nX0_pair (n + 1))) (k : ∃ a39_1 : Nat, s1 = some a39_1 ∧ gc_is σ a39_1 0 ∧ gx_C (gc_O θ) (nX0_need n) (.ref a39_1 :: [.int s0, .int (-1)]) σ (gc_Qv (fun σ39 => ((x2 = 0 → gc_is σ39 a0 0 ∧ ∃ a51_3 : Nat, gc_R σ39 15 a0 = some a51_3 ∧ gc_is σ39 a51_3 14 ∧ vp_in x1 (gc_n σ39 a51_3) ∧ P (gc_E σ39 a51_3 x1.toNatClampNeg) σ39) ∧ (¬ x2 = 0 → gc_is σ39 a0 0 ∧ ∃ a60_2 : Nat, gc_R σ39 16 a0 = some a60_2 ∧ gc_is σ39 a60_2 14 ∧ vp_in x1 (gc_n σ39 a60_2) ∧ P (gc_E σ39 a60_2 x1.toNatClampNeg) σ39))) (fun a39 σ39 => gc_is σ39 a39 1 ∧ gc_G θ K (nX0_pair (n + 1)) (gc_Pi P) 62 [(0, va_rf (some a0))] [va_rf (some a39)] σ39 bc bs))) : gc_G θ K (nX0_pair (n + 1)) (gc_Pi P) 38 [(0, va_rf (some a0)), (1, .int x1), (2, .int x2)] [.int s0, va_rf s1] σ bc bs := by
  refine gx_iconst (v := (-1)) h dX0_pair_38 (by decide) ?_
  obtain ⟨a39_1, e39_1, k⟩ := k
  refine gcc_X0_131 (r := s1) (a0 := s0) (a1 := (-1)) h rfl ⟨Nat.le_refl _, Nat.le_refl _⟩ e39_1 k.1 (Nat.le_of_ble_eq_true rfl) dX0_pair_39 (gx_C.mono k.2 ?_)
  rintro o σ39 (⟨rfl, k⟩ | ⟨a39, rfl, k⟩)
  · refine Or.inl ⟨rfl, ?_⟩
    refine gx_iload_n h 2 rfl dX0_pair_42 ?_
    refine gx_if_ne (tgt := 55) h (by decide) dX0_pair_43 (fun c => ?_) (fun c => ?_)
    · replace k := k.2 c
      refine gx_aload_nq (r := some a0) h 0 rfl dX0_pair_55 ?_
      refine gcg_X0_94 h rfl rfl k.1 dX0_pair_56 ?_
      replace k := k.2
      refine gx_iload_n h 1 rfl dX0_pair_59 ?_
      obtain ⟨a60_2, e60_2, k⟩ := k
      refine gc_ialdE (r := gc_R σ39 16 a0) h e60_2 k.1 k.2.1 dX0_pair_60 ?_
      replace k := k.2.2
      exact gx_iret h rfl dX0_pair_61 (⟨_, rfl, k⟩)
    · replace k := k.1 c
      refine gx_aload_nq (r := some a0) h 0 rfl dX0_pair_46 ?_
      refine gcg_X0_91 h rfl rfl k.1 dX0_pair_47 ?_
      replace k := k.2
      refine gx_iload_n h 1 rfl dX0_pair_50 ?_
      obtain ⟨a51_3, e51_3, k⟩ := k
      refine gc_ialdE (r := gc_R σ39 15 a0) h e51_3 k.1 k.2.1 dX0_pair_51 ?_
      replace k := k.2.2
      refine gx_goto (tgt := 61) h (by decide) dX0_pair_52 ?_
      exact gx_iret h rfl dX0_pair_61 (⟨_, rfl, k⟩)
  · refine Or.inr ⟨a39, rfl, ?_⟩
    refine gc_catchF h rfl q107 q109 [] ⟨0, 61, 62, 33⟩ [] rfl rfl rfl rfl k.1 ?_
    replace k := k.2
    exact gx_sub [0] rfl k
theorem bc_X0_pair_62 {θ : gc_T} {K : gx_K} {P : Int32 → gc_S → Prop} {σ : gc_S} {a0 s0 n bc bs : Nat} (h : gc_K θ K (nX0_pair (n + 1))) (k : gc_is σ a0 0 ∧ gx_C (gc_O θ) (nX0_finds n) (.ref a0 :: [va_rf (some s0)]) σ (gc_Pi (fun r65 σ65 => P r65 σ65))) : gc_G θ K (nX0_pair (n + 1)) (gc_Pi P) 62 [(0, va_rf (some a0))] [va_rf (some s0)] σ bc bs := by
  refine gx_astore_nq (r := some s0) (L' := [(3, va_rf (some s0)), (0, va_rf (some a0))]) h (Nat.le_of_ble_eq_true rfl) rfl dX0_pair_62 ?_
  refine gx_aload_nq (r := some a0) h 1 rfl dX0_pair_63 ?_
  refine gx_aload_nq (r := some s0) h 0 rfl dX0_pair_64 ?_
  refine gcc_X0_138 (r := some a0) (a0 := some s0) h rfl ⟨Nat.le_refl _, Nat.le_refl _⟩ rfl k.1 (Nat.le_of_ble_eq_true rfl) dX0_pair_65 (gx_C.mono k.2 ?_)
  rintro _ σ65 ⟨r65, rfl, k⟩
  refine ⟨r65, rfl, ?_⟩
  exact gx_iret h rfl dX0_pair_68 (⟨_, rfl, k⟩)
/-! X0.acts -/
theorem ec_X0_acts {θ : gc_T} {P : Int32 → gc_S → Prop} {σ : gc_S} {n : Nat} {a0 : Nat} (body : ∀ K, gc_K θ K (nX0_acts n) → gc_G θ K (nX0_acts n) (gc_Pi P) 0 [(0, va_rf (some a0))] [] σ 0 0) : gx_C (gc_O θ) (nX0_acts n) [.ref a0] σ (gc_Pi P) :=
  gx_C.intro (gc_z_warm θ) rfl (Nat.le_of_ble_eq_true rfl) body
theorem bc_X0_acts_0 {θ : gc_T} {K : gx_K} {P : Int32 → gc_S → Prop} {σ : gc_S} {a0 n bc bs : Nat} (h : gc_K θ K (nX0_acts n)) (k : gc_is σ a0 0 ∧ P (gc_I σ 17 a0) σ) : gc_G θ K (nX0_acts n) (gc_Pi P) 0 [(0, va_rf (some a0))] [] σ bc bs := by
  refine gx_aload_nq (r := some a0) h 0 rfl dX0_acts_0 ?_
  refine gcg_X0_272 h rfl rfl k.1 dX0_acts_1 ?_
  replace k := k.2
  exact gx_iret h rfl dX0_acts_4 (⟨_, rfl, k⟩)
/-! X0.act -/
theorem ec_X0_act {θ : gc_T} {P : Int32 → gc_S → Prop} {σ : gc_S} {n : Nat} {a0 : Nat} {x1 : Int32} {x2 : Int32} (body : ∀ K, gc_K θ K (nX0_act (n + 1)) → gc_G θ K (nX0_act (n + 1)) (gc_Pi P) 0 [(0, va_rf (some a0)), (1, .int x1), (2, .int x2)] [] σ 0 0) : gx_C (gc_O θ) (nX0_act (n + 1)) [.ref a0, .int x1, .int x2] σ (gc_Pi P) :=
  gx_C.intro (gc_z_warm θ) rfl (Nat.le_of_ble_eq_true rfl) body
theorem bc_X0_act_0 {θ : gc_T} {K : gx_K} {P : Int32 → gc_S → Prop} {σ : gc_S} {x1 x2 : Int32} {a0 n bc bs : Nat} (h : gc_K θ K (nX0_act (n + 1))) (k : ((x1 < 0 → gc_G θ K (nX0_act (n + 1)) (gc_Pi P) 17 [(0, va_rf (some a0)), (1, .int x1), (2, .int x2)] [va_rf (some a0)] σ bc bs) ∧ (¬ x1 < 0 → gc_is σ a0 0 ∧ (((gc_I σ 17 a0) ≤ x1 → gc_G θ K (nX0_act (n + 1)) (gc_Pi P) 17 [(0, va_rf (some a0)), (1, .int x1), (2, .int x2)] [va_rf (some a0)] σ bc bs) ∧ (¬ (gc_I σ 17 a0) ≤ x1 → gc_G θ K (nX0_act (n + 1)) (gc_Pi P) 18 [(0, va_rf (some a0)), (1, .int x1), (2, .int x2)] [.int 1, va_rf (some a0)] σ bc bs))))) : gc_G θ K (nX0_act (n + 1)) (gc_Pi P) 0 [(0, va_rf (some a0)), (1, .int x1), (2, .int x2)] [] σ bc bs := by
  refine gx_aload_nq (r := some a0) h 0 rfl dX0_act_0 ?_
  refine gx_iload_n h 1 rfl dX0_act_1 ?_
  refine gx_if_lt (tgt := 17) h (by decide) dX0_act_2 (fun c => ?_) (fun c => ?_)
  · replace k := k.1 c
    exact k
  · replace k := k.2 c
    refine gx_iload_n h 1 rfl dX0_act_5 ?_
    refine gx_aload_nq (r := some a0) h 0 rfl dX0_act_6 ?_
    refine gcg_X0_272 h rfl rfl k.1 dX0_act_7 ?_
    replace k := k.2
    refine gx_icmp_ge (tgt := 17) h (by decide) dX0_act_10 (fun c => ?_) (fun c => ?_)
    · replace k := k.1 c
      exact k
    · replace k := k.2 c
      refine gx_iconst (v := 1) h dX0_act_13 (by decide) ?_
      refine gx_goto (tgt := 18) h (by decide) dX0_act_14 ?_
      exact k
theorem bc_X0_act_17 {θ : gc_T} {K : gx_K} {P : Int32 → gc_S → Prop} {σ : gc_S} {x1 x2 : Int32} {s0 : Option Nat} {a0 n bc bs : Nat} (h : gc_K θ K (nX0_act (n + 1))) (k : gc_G θ K (nX0_act (n + 1)) (gc_Pi P) 18 [(0, va_rf (some a0)), (1, .int x1), (2, .int x2)] [.int 0, va_rf s0] σ bc bs) : gc_G θ K (nX0_act (n + 1)) (gc_Pi P) 17 [(0, va_rf (some a0)), (1, .int x1), (2, .int x2)] [va_rf s0] σ bc bs := by
  refine gx_iconst (v := 0) h dX0_act_17 (by decide) ?_
  exact k
theorem bc_X0_act_18 {θ : gc_T} {K : gx_K} {P : Int32 → gc_S → Prop} {σ : gc_S} {x1 x2 s0 : Int32} {s1 : Option Nat} {a0 n bc bs : Nat} (h : gc_K θ K (nX0_act (n + 1))) (k : ∃ a20_1 : Nat, s1 = some a20_1 ∧ gc_is σ a20_1 0 ∧ gx_C (gc_O θ) (nX0_need n) (.ref a20_1 :: [.int s0, .int (-6)]) σ (gc_Qv (fun σ20 => ((x2 < 0 → gc_G θ K (nX0_act (n + 1)) (gc_Pi P) 37 [(0, va_rf (some a0)), (1, .int x1), (2, .int x2)] [va_rf (some a0)] σ20 bc bs) ∧ (¬ x2 < 0 → ((2 < x2 → gc_G θ K (nX0_act (n + 1)) (gc_Pi P) 37 [(0, va_rf (some a0)), (1, .int x1), (2, .int x2)] [va_rf (some a0)] σ20 bc bs) ∧ (¬ 2 < x2 → gc_G θ K (nX0_act (n + 1)) (gc_Pi P) 38 [(0, va_rf (some a0)), (1, .int x1), (2, .int x2)] [.int 1, va_rf (some a0)] σ20 bc bs))))) (fun a20 σ20 => gc_is σ20 a20 1 ∧ gc_G θ K (nX0_act (n + 1)) (gc_Pi P) 76 [(0, va_rf (some a0))] [va_rf (some a20)] σ20 bc bs))) : gc_G θ K (nX0_act (n + 1)) (gc_Pi P) 18 [(0, va_rf (some a0)), (1, .int x1), (2, .int x2)] [.int s0, va_rf s1] σ bc bs := by
  refine gx_bipush (v := (-6)) h dX0_act_18 (by decide) ?_
  obtain ⟨a20_1, e20_1, k⟩ := k
  refine gcc_X0_131 (r := s1) (a0 := s0) (a1 := (-6)) h rfl ⟨Nat.le_refl _, Nat.le_refl _⟩ e20_1 k.1 (Nat.le_of_ble_eq_true rfl) dX0_act_20 (gx_C.mono k.2 ?_)
  rintro o σ20 (⟨rfl, k⟩ | ⟨a20, rfl, k⟩)
  · refine Or.inl ⟨rfl, ?_⟩
    refine gx_aload_nq (r := some a0) h 0 rfl dX0_act_23 ?_
    refine gx_iload_n h 2 rfl dX0_act_24 ?_
    refine gx_if_lt (tgt := 37) h (by decide) dX0_act_25 (fun c => ?_) (fun c => ?_)
    · replace k := k.1 c
      exact k
    · replace k := k.2 c
      refine gx_iload_n h 2 rfl dX0_act_28 ?_
      refine gx_iconst (v := 2) h dX0_act_29 (by decide) ?_
      refine gx_icmp_gt (tgt := 37) h (by decide) dX0_act_30 (fun c => ?_) (fun c => ?_)
      · replace k := k.1 c
        exact k
      · replace k := k.2 c
        refine gx_iconst (v := 1) h dX0_act_33 (by decide) ?_
        refine gx_goto (tgt := 38) h (by decide) dX0_act_34 ?_
        exact k
  · refine Or.inr ⟨a20, rfl, ?_⟩
    refine gc_catchF h rfl q107 q109 [] ⟨0, 75, 76, 33⟩ [] rfl rfl rfl rfl k.1 ?_
    replace k := k.2
    exact gx_sub [0] rfl k
theorem bc_X0_act_37 {θ : gc_T} {K : gx_K} {P : Int32 → gc_S → Prop} {σ : gc_S} {x1 x2 : Int32} {s0 : Option Nat} {a0 n bc bs : Nat} (h : gc_K θ K (nX0_act (n + 1))) (k : gc_G θ K (nX0_act (n + 1)) (gc_Pi P) 38 [(0, va_rf (some a0)), (1, .int x1), (2, .int x2)] [.int 0, va_rf s0] σ bc bs) : gc_G θ K (nX0_act (n + 1)) (gc_Pi P) 37 [(0, va_rf (some a0)), (1, .int x1), (2, .int x2)] [va_rf s0] σ bc bs := by
  refine gx_iconst (v := 0) h dX0_act_37 (by decide) ?_
  exact k
theorem bc_X0_act_38 {θ : gc_T} {K : gx_K} {P : Int32 → gc_S → Prop} {σ : gc_S} {x1 x2 s0 : Int32} {s1 : Option Nat} {a0 n bc bs : Nat} (h : gc_K θ K (nX0_act (n + 1))) (k : ∃ a39_1 : Nat, s1 = some a39_1 ∧ gc_is σ a39_1 0 ∧ gx_C (gc_O θ) (nX0_need n) (.ref a39_1 :: [.int s0, .int (-1)]) σ (gc_Qv (fun σ39 => ((x2 = 0 → gc_is σ39 a0 0 ∧ ∃ a51_4 : Nat, gc_R σ39 18 a0 = some a51_4 ∧ gc_is σ39 a51_4 14 ∧ vp_in x1 (gc_n σ39 a51_4) ∧ P (gc_E σ39 a51_4 x1.toNatClampNeg) σ39) ∧ (¬ x2 = 0 → ((x2 = 1 → gc_is σ39 a0 0 ∧ ∃ a65_3 : Nat, gc_R σ39 19 a0 = some a65_3 ∧ gc_is σ39 a65_3 14 ∧ vp_in x1 (gc_n σ39 a65_3) ∧ P (gc_E σ39 a65_3 x1.toNatClampNeg) σ39) ∧ (¬ x2 = 1 → gc_is σ39 a0 0 ∧ ∃ a74_2 : Nat, gc_R σ39 20 a0 = some a74_2 ∧ gc_is σ39 a74_2 14 ∧ vp_in x1 (gc_n σ39 a74_2) ∧ P (gc_E σ39 a74_2 x1.toNatClampNeg) σ39))))) (fun a39 σ39 => gc_is σ39 a39 1 ∧ gc_G θ K (nX0_act (n + 1)) (gc_Pi P) 76 [(0, va_rf (some a0))] [va_rf (some a39)] σ39 bc bs))) : gc_G θ K (nX0_act (n + 1)) (gc_Pi P) 38 [(0, va_rf (some a0)), (1, .int x1), (2, .int x2)] [.int s0, va_rf s1] σ bc bs := by
  refine gx_iconst (v := (-1)) h dX0_act_38 (by decide) ?_
  obtain ⟨a39_1, e39_1, k⟩ := k
  refine gcc_X0_131 (r := s1) (a0 := s0) (a1 := (-1)) h rfl ⟨Nat.le_refl _, Nat.le_refl _⟩ e39_1 k.1 (Nat.le_of_ble_eq_true rfl) dX0_act_39 (gx_C.mono k.2 ?_)
  rintro o σ39 (⟨rfl, k⟩ | ⟨a39, rfl, k⟩)
  · refine Or.inl ⟨rfl, ?_⟩
    refine gx_iload_n h 2 rfl dX0_act_42 ?_
    refine gx_if_ne (tgt := 55) h (by decide) dX0_act_43 (fun c => ?_) (fun c => ?_)
    · replace k := k.2 c
      refine gx_iload_n h 2 rfl dX0_act_55 ?_
      refine gx_iconst (v := 1) h dX0_act_56 (by decide) ?_
      refine gx_icmp_ne (tgt := 69) h (by decide) dX0_act_57 (fun c => ?_) (fun c => ?_)
      · replace k := k.2 c
        refine gx_aload_nq (r := some a0) h 0 rfl dX0_act_69 ?_
        refine gcg_X0_103 h rfl rfl k.1 dX0_act_70 ?_
        replace k := k.2
        refine gx_iload_n h 1 rfl dX0_act_73 ?_
        obtain ⟨a74_2, e74_2, k⟩ := k
        refine gc_ialdE (r := gc_R σ39 20 a0) h e74_2 k.1 k.2.1 dX0_act_74 ?_
        replace k := k.2.2
        exact gx_iret h rfl dX0_act_75 (⟨_, rfl, k⟩)
      · replace k := k.1 c
        refine gx_aload_nq (r := some a0) h 0 rfl dX0_act_60 ?_
        refine gcg_X0_100 h rfl rfl k.1 dX0_act_61 ?_
        replace k := k.2
        refine gx_iload_n h 1 rfl dX0_act_64 ?_
        obtain ⟨a65_3, e65_3, k⟩ := k
        refine gc_ialdE (r := gc_R σ39 19 a0) h e65_3 k.1 k.2.1 dX0_act_65 ?_
        replace k := k.2.2
        refine gx_goto (tgt := 75) h (by decide) dX0_act_66 ?_
        exact gx_iret h rfl dX0_act_75 (⟨_, rfl, k⟩)
    · replace k := k.1 c
      refine gx_aload_nq (r := some a0) h 0 rfl dX0_act_46 ?_
      refine gcg_X0_97 h rfl rfl k.1 dX0_act_47 ?_
      replace k := k.2
      refine gx_iload_n h 1 rfl dX0_act_50 ?_
      obtain ⟨a51_4, e51_4, k⟩ := k
      refine gc_ialdE (r := gc_R σ39 18 a0) h e51_4 k.1 k.2.1 dX0_act_51 ?_
      replace k := k.2.2
      refine gx_goto (tgt := 75) h (by decide) dX0_act_52 ?_
      exact gx_iret h rfl dX0_act_75 (⟨_, rfl, k⟩)
  · refine Or.inr ⟨a39, rfl, ?_⟩
    refine gc_catchF h rfl q107 q109 [] ⟨0, 75, 76, 33⟩ [] rfl rfl rfl rfl k.1 ?_
    replace k := k.2
    exact gx_sub [0] rfl k
theorem bc_X0_act_76 {θ : gc_T} {K : gx_K} {P : Int32 → gc_S → Prop} {σ : gc_S} {a0 s0 n bc bs : Nat} (h : gc_K θ K (nX0_act (n + 1))) (k : gc_is σ a0 0 ∧ gx_C (gc_O θ) (nX0_finds n) (.ref a0 :: [va_rf (some s0)]) σ (gc_Pi (fun r79 σ79 => P r79 σ79))) : gc_G θ K (nX0_act (n + 1)) (gc_Pi P) 76 [(0, va_rf (some a0))] [va_rf (some s0)] σ bc bs := by
  refine gx_astore_nq (r := some s0) (L' := [(3, va_rf (some s0)), (0, va_rf (some a0))]) h (Nat.le_of_ble_eq_true rfl) rfl dX0_act_76 ?_
  refine gx_aload_nq (r := some a0) h 1 rfl dX0_act_77 ?_
  refine gx_aload_nq (r := some s0) h 0 rfl dX0_act_78 ?_
  refine gcc_X0_138 (r := some a0) (a0 := some s0) h rfl ⟨Nat.le_refl _, Nat.le_refl _⟩ rfl k.1 (Nat.le_of_ble_eq_true rfl) dX0_act_79 (gx_C.mono k.2 ?_)
  rintro _ σ79 ⟨r79, rfl, k⟩
  refine ⟨r79, rfl, ?_⟩
  exact gx_iret h rfl dX0_act_82 (⟨_, rfl, k⟩)
/-! X0.like -/
theorem ec_X0_like {θ : gc_T} {P : Int32 → gc_S → Prop} {σ : gc_S} {n : Nat} {a0 : Nat} (body : ∀ K, gc_K θ K (nX0_like (n + 1)) → gc_G θ K (nX0_like (n + 1)) (gc_Pi P) 0 [(0, va_rf (some a0))] [] σ 0 0) : gx_C (gc_O θ) (nX0_like (n + 1)) [.ref a0] σ (gc_Pi P) :=
  gx_C.intro (gc_z_warm θ) rfl (Nat.le_of_ble_eq_true rfl) body
theorem bc_X0_like_0 {θ : gc_T} {K : gx_K} {P : Int32 → gc_S → Prop} {σ : gc_S} {a0 n bc bs : Nat} (h : gc_K θ K (nX0_like (n + 1))) (k : gc_is σ a0 0 ∧ gc_is σ a0 0 ∧ gx_C (gc_O θ) (nX0_need n) (.ref a0 :: [.int (gc_I σ 12 a0), .int (-6)]) σ (gc_Qv (fun σ7 => gc_is σ7 a0 0 ∧ gc_is σ7 a0 0 ∧ ¬ (gc_I σ7 14 a0) = 0 ∧ P ((200 * (gc_I σ7 13 a0)) / (gc_I σ7 14 a0)) σ7) (fun a7 σ7 => gc_is σ7 a7 1 ∧ gc_G θ K (nX0_like (n + 1)) (gc_Pi P) 24 [(0, va_rf (some a0))] [va_rf (some a7)] σ7 bc bs))) : gc_G θ K (nX0_like (n + 1)) (gc_Pi P) 0 [(0, va_rf (some a0))] [] σ bc bs := by
  refine gx_aload_nq (r := some a0) h 0 rfl dX0_like_0 ?_
  refine gx_aload_nq (r := some a0) h 0 rfl dX0_like_1 ?_
  refine gcg_X0_279 h rfl rfl k.1 dX0_like_2 ?_
  replace k := k.2
  refine gx_bipush (v := (-6)) h dX0_like_5 (by decide) ?_
  refine gcc_X0_131 (r := some a0) (a0 := gc_I σ 12 a0) (a1 := (-6)) h rfl ⟨Nat.le_refl _, Nat.le_refl _⟩ rfl k.1 (Nat.le_of_ble_eq_true rfl) dX0_like_7 (gx_C.mono k.2 ?_)
  rintro o σ7 (⟨rfl, k⟩ | ⟨a7, rfl, k⟩)
  · refine Or.inl ⟨rfl, ?_⟩
    refine gx_sipush (v := 200) h dX0_like_10 (by decide) ?_
    refine gx_aload_nq (r := some a0) h 0 rfl dX0_like_13 ?_
    refine gcg_X0_283 h rfl rfl k.1 dX0_like_14 ?_
    replace k := k.2
    refine gx_imul h dX0_like_17 ?_
    refine gx_aload_nq (r := some a0) h 0 rfl dX0_like_18 ?_
    refine gcg_X0_286 h rfl rfl k.1 dX0_like_19 ?_
    replace k := k.2
    refine gx_idiv h k.1 dX0_like_22 ?_
    replace k := k.2
    exact gx_iret h rfl dX0_like_23 (⟨_, rfl, k⟩)
  · refine Or.inr ⟨a7, rfl, ?_⟩
    refine gc_catchF h rfl q107 q109 [] ⟨0, 23, 24, 33⟩ [] rfl rfl rfl rfl k.1 ?_
    replace k := k.2
    exact k
theorem bc_X0_like_24 {θ : gc_T} {K : gx_K} {P : Int32 → gc_S → Prop} {σ : gc_S} {a0 s0 n bc bs : Nat} (h : gc_K θ K (nX0_like (n + 1))) (k : gc_is σ a0 0 ∧ gx_C (gc_O θ) (nX0_finds n) (.ref a0 :: [va_rf (some s0)]) σ (gc_Pi (fun r27 σ27 => P r27 σ27))) : gc_G θ K (nX0_like (n + 1)) (gc_Pi P) 24 [(0, va_rf (some a0))] [va_rf (some s0)] σ bc bs := by
  refine gx_astore_nq (r := some s0) (L' := [(1, va_rf (some s0)), (0, va_rf (some a0))]) h (Nat.le_of_ble_eq_true rfl) rfl dX0_like_24 ?_
  refine gx_aload_nq (r := some a0) h 1 rfl dX0_like_25 ?_
  refine gx_aload_nq (r := some s0) h 0 rfl dX0_like_26 ?_
  refine gcc_X0_138 (r := some a0) (a0 := some s0) h rfl ⟨Nat.le_refl _, Nat.le_refl _⟩ rfl k.1 (Nat.le_of_ble_eq_true rfl) dX0_like_27 (gx_C.mono k.2 ?_)
  rintro _ σ27 ⟨r27, rfl, k⟩
  refine ⟨r27, rfl, ?_⟩
  exact gx_iret h rfl dX0_like_30 (⟨_, rfl, k⟩)
/-! X0.same -/
theorem ec_X0_same {θ : gc_T} {P : Int32 → gc_S → Prop} {σ : gc_S} {n c s : Nat} {a0 : Nat} {x1 : Int32} {x2 : Int32} (body : ∀ K, gc_K θ K (nX0_same (n + 1) c s) → gc_G θ K (nX0_same (n + 1) c s) (gc_Pi P) 0 [(0, va_rf (some a0)), (1, .int x1), (2, .int x2)] [] σ c s) : gx_C (gc_O θ) (nX0_same (n + 1) c s) [.ref a0, .int x1, .int x2] σ (gc_Pi P) :=
  gx_C.intro (gc_z_warm θ) rfl (Nat.le_of_ble_eq_true rfl) body
theorem bc_X0_same_0 {θ : gc_T} {K : gx_K} {P : Int32 → gc_S → Prop} {σ : gc_S} {x1 x2 : Int32} {a0 n c s bc bs : Nat} (h : gc_K θ K (nX0_same (n + 1) c s)) (k : ∃ c2 s2 : Nat, (c2 ≤ bc ∧ s2 ≤ bs) ∧ gc_is σ a0 0 ∧ gx_C (gc_O θ) (nX0_tree n c2 s2) (.ref a0 :: [.int x1]) σ (gc_Qr (fun r2 σ2 => ∃ c8 s8 : Nat, (c8 ≤ (bc - c2) ∧ s8 ≤ (bs - s2)) ∧ gc_is σ2 a0 0 ∧ gx_C (gc_O θ) (nX0_tree n c8 s8) (.ref a0 :: [.int x2]) σ2 (gc_Qr (fun r8 σ8 => gc_is σ8 a0 0 ∧ ∃ a17_1 : Nat, gc_R σ8 9 a0 = some a17_1 ∧ gc_is σ8 a17_1 5 ∧ gx_C (gc_O θ) (nX5_clear n) (.ref a17_1 :: []) σ8 (gc_Pv (fun σ17 => gc_is σ17 a0 0 ∧ ∃ a25_2 : Nat, gc_R σ17 9 a0 = some a25_2 ∧ ∃ c25 s25 : Nat, (c25 ≤ ((bc - c2) - c8) ∧ s25 ≤ ((bs - s2) - s8)) ∧ gc_is σ17 a25_2 5 ∧ gx_C (gc_O θ) (nX5_number n c25 s25) (.ref a25_2 :: [va_rf r2]) σ17 (gc_Pv (fun σ25 => ∃ a29_3 : Nat, r2 = some a29_3 ∧ gc_is σ25 a29_3 7 ∧ ∃ a32_4 : Nat, gc_R σ25 700 a29_3 = some a32_4 ∧ gc_isN σ25 a32_4 ∧ gc_is σ25 a0 0 ∧ ∃ a43_5 : Nat, gc_R σ25 9 a0 = some a43_5 ∧ ∃ c43 s43 : Nat, (c43 ≤ (((bc - c2) - c8) - c25) ∧ s43 ≤ (((bs - s2) - s8) - s25)) ∧ gc_is σ25 a43_5 5 ∧ gx_C (gc_O θ) (nX5_number n c43 s43) (.ref a43_5 :: [va_rf r8]) σ25 (gc_Pv (fun σ43 => ∃ a48_6 : Nat, r8 = some a48_6 ∧ gc_is σ43 a48_6 7 ∧ ∃ a51_7 : Nat, gc_R σ43 700 a48_6 = some a51_7 ∧ gc_isN σ43 a51_7 ∧ (((gc_I σ43 809 a51_7) = (gc_I σ25 809 a32_4) → P 1 σ43) ∧ (¬ (gc_I σ43 809 a51_7) = (gc_I σ25 809 a32_4) → P 0 σ43))))))))) (fun a8 σ8 => gc_is σ8 a8 1 ∧ gc_G θ K (nX0_same (n + 1) c s) (gc_Pi P) 65 [(0, va_rf (some a0))] [va_rf (some a8)] σ8 ((bc - c2) - c8) ((bs - s2) - s8)))) (fun a2 σ2 => gc_is σ2 a2 1 ∧ gc_G θ K (nX0_same (n + 1) c s) (gc_Pi P) 65 [(0, va_rf (some a0))] [va_rf (some a2)] σ2 (bc - c2) (bs - s2)))) : gc_G θ K (nX0_same (n + 1) c s) (gc_Pi P) 0 [(0, va_rf (some a0)), (1, .int x1), (2, .int x2)] [] σ bc bs := by
  refine gx_aload_nq (r := some a0) h 0 rfl dX0_same_0 ?_
  refine gx_iload_n h 1 rfl dX0_same_1 ?_
  obtain ⟨c2, s2, hb2, k⟩ := k
  refine gcc_X0_162 (r := some a0) (a0 := x1) h rfl ⟨Nat.le_refl _, Nat.le_refl _⟩ hb2 rfl k.1 (Nat.le_of_ble_eq_true rfl) dX0_same_2 (gx_C.mono k.2 ?_)
  rintro o σ2 (⟨r2, rfl, k⟩ | ⟨a2, rfl, k⟩)
  · refine Or.inl ⟨r2, rfl, ?_⟩
    refine gx_astore_nq (r := r2) (L' := [(3, va_rf r2), (0, va_rf (some a0)), (1, .int x1), (2, .int x2)]) h (Nat.le_of_ble_eq_true rfl) rfl dX0_same_5 ?_
    refine gx_aload_nq (r := some a0) h 1 rfl dX0_same_6 ?_
    refine gx_iload_n h 3 rfl dX0_same_7 ?_
    obtain ⟨c8, s8, hb8, k⟩ := k
    refine gcc_X0_162 (r := some a0) (a0 := x2) h rfl ⟨Nat.le_refl _, Nat.le_refl _⟩ hb8 rfl k.1 (Nat.le_of_ble_eq_true rfl) dX0_same_8 (gx_C.mono k.2 ?_)
    rintro o σ8 (⟨r8, rfl, k⟩ | ⟨a8, rfl, k⟩)
    · refine Or.inl ⟨r8, rfl, ?_⟩
      refine gx_astoreq (r := r8) (L' := [(4, va_rf r8), (3, va_rf r2), (0, va_rf (some a0)), (1, .int x1), (2, .int x2)]) h (Nat.le_of_ble_eq_true rfl) (by generalize r2 = z; cases z <;> rfl) dX0_same_11 ?_
      refine gx_aload_nq (r := some a0) h 2 rfl dX0_same_13 ?_
      refine gcg_X0_80 h rfl rfl k.1 dX0_same_14 ?_
      replace k := k.2
      obtain ⟨a17_1, e17_1, k⟩ := k
      refine gcc_X0_308 (r := gc_R σ8 9 a0)  h rfl ⟨Nat.le_refl _, Nat.le_refl _⟩ e17_1 k.1 (Nat.le_of_ble_eq_true rfl) dX0_same_17 (gx_C.mono k.2 ?_)
      rintro _ σ17 ⟨rfl, k⟩
      refine ⟨rfl, ?_⟩
      refine gx_aload_nq (r := some a0) h 2 rfl dX0_same_20 ?_
      refine gcg_X0_80 h rfl rfl k.1 dX0_same_21 ?_
      replace k := k.2
      refine gx_aload_nq (r := r2) h 1 rfl dX0_same_24 ?_
      obtain ⟨a25_2, e25_2, k⟩ := k
      obtain ⟨c25, s25, hb25, k⟩ := k
      refine gcc_X0_311 (r := gc_R σ17 9 a0) (a0 := r2) h rfl ⟨Nat.le_refl _, Nat.le_refl _⟩ hb25 e25_2 k.1 (Nat.le_of_ble_eq_true rfl) dX0_same_25 (gx_C.mono k.2 ?_)
      rintro _ σ25 ⟨rfl, k⟩
      refine ⟨rfl, ?_⟩
      refine gx_aload_nq (r := r2) h 1 rfl dX0_same_28 ?_
      obtain ⟨a29_3, e29_3, k⟩ := k
      refine gcg_X0_114 h rfl e29_3 k.1 dX0_same_29 ?_
      replace k := k.2
      obtain ⟨a32_4, e32_4, k⟩ := k
      refine gcg_X0_314 h rfl e32_4 k.1 dX0_same_32 ?_
      replace k := k.2
      refine gx_istore (L' := [(5, .int (gc_I σ25 809 a32_4)), (4, va_rf r8), (3, va_rf r2), (0, va_rf (some a0)), (1, .int x1), (2, .int x2)]) h (Nat.le_of_ble_eq_true rfl) (by generalize r8 = z; cases z <;> rfl) dX0_same_35 ?_
      refine gx_aload_nq (r := some a0) h 3 rfl dX0_same_37 ?_
      refine gcg_X0_80 h rfl rfl k.1 dX0_same_38 ?_
      replace k := k.2
      refine gx_aloadq (r := r8) h 1 rfl dX0_same_41 ?_
      obtain ⟨a43_5, e43_5, k⟩ := k
      obtain ⟨c43, s43, hb43, k⟩ := k
      refine gcc_X0_311 (r := gc_R σ25 9 a0) (a0 := r8) h rfl ⟨Nat.le_refl _, Nat.le_refl _⟩ hb43 e43_5 k.1 (Nat.le_of_ble_eq_true rfl) dX0_same_43 (gx_C.mono k.2 ?_)
      rintro _ σ43 ⟨rfl, k⟩
      refine ⟨rfl, ?_⟩
      refine gx_aloadq (r := r8) h 1 rfl dX0_same_46 ?_
      obtain ⟨a48_6, e48_6, k⟩ := k
      refine gcg_X0_114 h rfl e48_6 k.1 dX0_same_48 ?_
      replace k := k.2
      obtain ⟨a51_7, e51_7, k⟩ := k
      refine gcg_X0_314 h rfl e51_7 k.1 dX0_same_51 ?_
      replace k := k.2
      refine gx_iload h 0 rfl dX0_same_54 ?_
      refine gx_icmp_ne (tgt := 63) h (by decide) dX0_same_56 (fun c => ?_) (fun c => ?_)
      · replace k := k.2 c
        refine gx_iconst (v := 0) h dX0_same_63 (by decide) ?_
        exact gx_iret h rfl dX0_same_64 (⟨_, rfl, k⟩)
      · replace k := k.1 c
        refine gx_iconst (v := 1) h dX0_same_59 (by decide) ?_
        refine gx_goto (tgt := 64) h (by decide) dX0_same_60 ?_
        exact gx_iret h rfl dX0_same_64 (⟨_, rfl, k⟩)
    · refine Or.inr ⟨a8, rfl, ?_⟩
      refine gc_catchF h rfl q107 q109 [] ⟨0, 64, 65, 33⟩ [] rfl rfl rfl rfl k.1 ?_
      replace k := k.2
      exact gx_sub [1] rfl k
  · refine Or.inr ⟨a2, rfl, ?_⟩
    refine gc_catchF h rfl q107 q109 [] ⟨0, 64, 65, 33⟩ [] rfl rfl rfl rfl k.1 ?_
    replace k := k.2
    exact gx_sub [0] rfl k
theorem bc_X0_same_65 {θ : gc_T} {K : gx_K} {P : Int32 → gc_S → Prop} {σ : gc_S} {a0 s0 n c s bc bs : Nat} (h : gc_K θ K (nX0_same (n + 1) c s)) (k : gc_is σ a0 0 ∧ gx_C (gc_O θ) (nX0_finds n) (.ref a0 :: [va_rf (some s0)]) σ (gc_Pi (fun r68 σ68 => P r68 σ68))) : gc_G θ K (nX0_same (n + 1) c s) (gc_Pi P) 65 [(0, va_rf (some a0))] [va_rf (some s0)] σ bc bs := by
  refine gx_astore_nq (r := some s0) (L' := [(3, va_rf (some s0)), (0, va_rf (some a0))]) h (Nat.le_of_ble_eq_true rfl) rfl dX0_same_65 ?_
  refine gx_aload_nq (r := some a0) h 1 rfl dX0_same_66 ?_
  refine gx_aload_nq (r := some s0) h 0 rfl dX0_same_67 ?_
  refine gcc_X0_138 (r := some a0) (a0 := some s0) h rfl ⟨Nat.le_refl _, Nat.le_refl _⟩ rfl k.1 (Nat.le_of_ble_eq_true rfl) dX0_same_68 (gx_C.mono k.2 ?_)
  rintro _ σ68 ⟨r68, rfl, k⟩
  refine ⟨r68, rfl, ?_⟩
  exact gx_iret h rfl dX0_same_71 (⟨_, rfl, k⟩)
/-! X0.unlike -/
theorem ec_X0_unlike {θ : gc_T} {P : Int32 → gc_S → Prop} {σ : gc_S} {n c s : Nat} {a0 : Nat} {x1 : Int32} (body : ∀ K, gc_K θ K (nX0_unlike (n + 1) c s) → gc_G θ K (nX0_unlike (n + 1) c s) (gc_Pi P) 0 [(0, va_rf (some a0)), (1, .int x1)] [] σ c s) : gx_C (gc_O θ) (nX0_unlike (n + 1) c s) [.ref a0, .int x1] σ (gc_Pi P) :=
  gx_C.intro (gc_z_warm θ) rfl (Nat.le_of_ble_eq_true rfl) body
theorem bc_X0_unlike_0 {θ : gc_T} {K : gx_K} {P : Int32 → gc_S → Prop} {σ : gc_S} {x1 : Int32} {a0 n c s bc bs : Nat} (h : gc_K θ K (nX0_unlike (n + 1) c s)) (k : ∃ c2 s2 : Nat, (c2 ≤ bc ∧ s2 ≤ bs) ∧ gc_is σ a0 0 ∧ gx_C (gc_O θ) (nX0_tree n c2 s2) (.ref a0 :: [.int x1]) σ (gc_Qr (fun r2 σ2 => gc_is σ2 a0 0 ∧ ∃ a10_1 : Nat, gc_R σ2 9 a0 = some a10_1 ∧ gc_is σ2 a10_1 5 ∧ gx_C (gc_O θ) (nX5_clear n) (.ref a10_1 :: []) σ2 (gc_Pv (fun σ10 => gc_is σ10 a0 0 ∧ ∃ a18_2 : Nat, gc_R σ10 9 a0 = some a18_2 ∧ ∃ c18 s18 : Nat, (c18 ≤ (bc - c2) ∧ s18 ≤ (bs - s2)) ∧ gc_is σ10 a18_2 5 ∧ gx_C (gc_O θ) (nX5_number n c18 s18) (.ref a18_2 :: [va_rf r2]) σ10 (gc_Pv (fun σ18 => gc_is σ18 a0 0 ∧ ∃ a25_3 : Nat, gc_R σ18 9 a0 = some a25_3 ∧ gc_is σ18 a25_3 5 ∧ P (gc_I σ18 501 a25_3) σ18))))) (fun a2 σ2 => gc_is σ2 a2 1 ∧ gc_G θ K (nX0_unlike (n + 1) c s) (gc_Pi P) 29 [(0, va_rf (some a0))] [va_rf (some a2)] σ2 (bc - c2) (bs - s2)))) : gc_G θ K (nX0_unlike (n + 1) c s) (gc_Pi P) 0 [(0, va_rf (some a0)), (1, .int x1)] [] σ bc bs := by
  refine gx_aload_nq (r := some a0) h 0 rfl dX0_unlike_0 ?_
  refine gx_iload_n h 1 rfl dX0_unlike_1 ?_
  obtain ⟨c2, s2, hb2, k⟩ := k
  refine gcc_X0_162 (r := some a0) (a0 := x1) h rfl ⟨Nat.le_refl _, Nat.le_refl _⟩ hb2 rfl k.1 (Nat.le_of_ble_eq_true rfl) dX0_unlike_2 (gx_C.mono k.2 ?_)
  rintro o σ2 (⟨r2, rfl, k⟩ | ⟨a2, rfl, k⟩)
  · refine Or.inl ⟨r2, rfl, ?_⟩
    refine gx_astore_nq (r := r2) (L' := [(2, va_rf r2), (0, va_rf (some a0)), (1, .int x1)]) h (Nat.le_of_ble_eq_true rfl) rfl dX0_unlike_5 ?_
    refine gx_aload_nq (r := some a0) h 1 rfl dX0_unlike_6 ?_
    refine gcg_X0_80 h rfl rfl k.1 dX0_unlike_7 ?_
    replace k := k.2
    obtain ⟨a10_1, e10_1, k⟩ := k
    refine gcc_X0_308 (r := gc_R σ2 9 a0)  h rfl ⟨Nat.le_refl _, Nat.le_refl _⟩ e10_1 k.1 (Nat.le_of_ble_eq_true rfl) dX0_unlike_10 (gx_C.mono k.2 ?_)
    rintro _ σ10 ⟨rfl, k⟩
    refine ⟨rfl, ?_⟩
    refine gx_aload_nq (r := some a0) h 1 rfl dX0_unlike_13 ?_
    refine gcg_X0_80 h rfl rfl k.1 dX0_unlike_14 ?_
    replace k := k.2
    refine gx_aload_nq (r := r2) h 0 rfl dX0_unlike_17 ?_
    obtain ⟨a18_2, e18_2, k⟩ := k
    obtain ⟨c18, s18, hb18, k⟩ := k
    refine gcc_X0_311 (r := gc_R σ10 9 a0) (a0 := r2) h rfl ⟨Nat.le_refl _, Nat.le_refl _⟩ hb18 e18_2 k.1 (Nat.le_of_ble_eq_true rfl) dX0_unlike_18 (gx_C.mono k.2 ?_)
    rintro _ σ18 ⟨rfl, k⟩
    refine ⟨rfl, ?_⟩
    refine gx_aload_nq (r := some a0) h 1 rfl dX0_unlike_21 ?_
    refine gcg_X0_80 h rfl rfl k.1 dX0_unlike_22 ?_
    replace k := k.2
    obtain ⟨a25_3, e25_3, k⟩ := k
    refine gcg_X0_317 h rfl e25_3 k.1 dX0_unlike_25 ?_
    replace k := k.2
    exact gx_iret h rfl dX0_unlike_28 (⟨_, rfl, k⟩)
  · refine Or.inr ⟨a2, rfl, ?_⟩
    refine gc_catchF h rfl q107 q109 [] ⟨0, 28, 29, 33⟩ [] rfl rfl rfl rfl k.1 ?_
    replace k := k.2
    exact gx_sub [0] rfl k
theorem bc_X0_unlike_29 {θ : gc_T} {K : gx_K} {P : Int32 → gc_S → Prop} {σ : gc_S} {a0 s0 n c s bc bs : Nat} (h : gc_K θ K (nX0_unlike (n + 1) c s)) (k : gc_is σ a0 0 ∧ gx_C (gc_O θ) (nX0_finds n) (.ref a0 :: [va_rf (some s0)]) σ (gc_Pi (fun r32 σ32 => P r32 σ32))) : gc_G θ K (nX0_unlike (n + 1) c s) (gc_Pi P) 29 [(0, va_rf (some a0))] [va_rf (some s0)] σ bc bs := by
  refine gx_astore_nq (r := some s0) (L' := [(2, va_rf (some s0)), (0, va_rf (some a0))]) h (Nat.le_of_ble_eq_true rfl) rfl dX0_unlike_29 ?_
  refine gx_aload_nq (r := some a0) h 1 rfl dX0_unlike_30 ?_
  refine gx_aload_nq (r := some s0) h 0 rfl dX0_unlike_31 ?_
  refine gcc_X0_138 (r := some a0) (a0 := some s0) h rfl ⟨Nat.le_refl _, Nat.le_refl _⟩ rfl k.1 (Nat.le_of_ble_eq_true rfl) dX0_unlike_32 (gx_C.mono k.2 ?_)
  rintro _ σ32 ⟨r32, rfl, k⟩
  refine ⟨r32, rfl, ?_⟩
  exact gx_iret h rfl dX0_unlike_35 (⟨_, rfl, k⟩)
/-! X0.shared -/
theorem ec_X0_shared {θ : gc_T} {P : Int32 → gc_S → Prop} {σ : gc_S} {n c s : Nat} {a0 : Nat} {x1 : Int32} {x2 : Int32} (body : ∀ K, gc_K θ K (nX0_shared (n + 1) c s) → gc_G θ K (nX0_shared (n + 1) c s) (gc_Pi P) 0 [(0, va_rf (some a0)), (1, .int x1), (2, .int x2)] [] σ c s) : gx_C (gc_O θ) (nX0_shared (n + 1) c s) [.ref a0, .int x1, .int x2] σ (gc_Pi P) :=
  gx_C.intro (gc_z_warm θ) rfl (Nat.le_of_ble_eq_true rfl) body
theorem bc_X0_shared_0 {θ : gc_T} {K : gx_K} {P : Int32 → gc_S → Prop} {σ : gc_S} {x1 x2 : Int32} {a0 n c s bc bs : Nat} (h : gc_K θ K (nX0_shared (n + 1) c s)) (k : ∃ c2 s2 : Nat, (c2 ≤ bc ∧ s2 ≤ bs) ∧ gc_is σ a0 0 ∧ gx_C (gc_O θ) (nX0_tree n c2 s2) (.ref a0 :: [.int x1]) σ (gc_Qr (fun r2 σ2 => ∃ c8 s8 : Nat, (c8 ≤ (bc - c2) ∧ s8 ≤ (bs - s2)) ∧ gc_is σ2 a0 0 ∧ gx_C (gc_O θ) (nX0_tree n c8 s8) (.ref a0 :: [.int x2]) σ2 (gc_Qr (fun r8 σ8 => gc_is σ8 a0 0 ∧ ∃ a17_1 : Nat, gc_R σ8 9 a0 = some a17_1 ∧ gc_is σ8 a17_1 5 ∧ gx_C (gc_O θ) (nX5_clear n) (.ref a17_1 :: []) σ8 (gc_Pv (fun σ17 => gc_is σ17 a0 0 ∧ ∃ a26_2 : Nat, gc_R σ17 9 a0 = some a26_2 ∧ ∃ c26 s26 : Nat, (c26 ≤ ((bc - c2) - c8) ∧ s26 ≤ ((bs - s2) - s8)) ∧ gc_is σ17 a26_2 5 ∧ gx_C (gc_O θ) (nX5_number n c26 s26) (.ref a26_2 :: [va_rf r8]) σ17 (gc_Pv (fun σ26 => gc_is σ26 a0 0 ∧ ∃ a33_3 : Nat, gc_R σ26 9 a0 = some a33_3 ∧ gc_is σ26 a33_3 5 ∧ gc_is σ26 a0 0 ∧ ∃ c43 s43 : Nat, (c43 ≤ (((bc - c2) - c8) - c26) ∧ s43 ≤ (((bs - s2) - s8) - s26)) ∧ gc_is σ26 a33_3 5 ∧ gx_C (gc_O θ) (nX5_number n c43 s43) (.ref a33_3 :: [va_rf r2]) σ26 (gc_Pv (fun σ43 => gc_G θ K (nX0_shared (n + 1) c s) (gc_Pi P) 52 [(0, va_rf (some a0)), (3, va_rf r2), (5, .int (gc_I σ26 501 a33_3)), (6, .int 0), (7, .int 0)] [] σ43 ((((bc - c2) - c8) - c26) - c43) ((((bs - s2) - s8) - s26) - s43)))))))) (fun a8 σ8 => gc_is σ8 a8 1 ∧ gc_G θ K (nX0_shared (n + 1) c s) (gc_Pi P) 95 [(0, va_rf (some a0))] [va_rf (some a8)] σ8 ((bc - c2) - c8) ((bs - s2) - s8)))) (fun a2 σ2 => gc_is σ2 a2 1 ∧ gc_G θ K (nX0_shared (n + 1) c s) (gc_Pi P) 95 [(0, va_rf (some a0))] [va_rf (some a2)] σ2 (bc - c2) (bs - s2)))) : gc_G θ K (nX0_shared (n + 1) c s) (gc_Pi P) 0 [(0, va_rf (some a0)), (1, .int x1), (2, .int x2)] [] σ bc bs := by
  refine gx_aload_nq (r := some a0) h 0 rfl dX0_shared_0 ?_
  refine gx_iload_n h 1 rfl dX0_shared_1 ?_
  obtain ⟨c2, s2, hb2, k⟩ := k
  refine gcc_X0_162 (r := some a0) (a0 := x1) h rfl ⟨Nat.le_refl _, Nat.le_refl _⟩ hb2 rfl k.1 (Nat.le_of_ble_eq_true rfl) dX0_shared_2 (gx_C.mono k.2 ?_)
  rintro o σ2 (⟨r2, rfl, k⟩ | ⟨a2, rfl, k⟩)
  · refine Or.inl ⟨r2, rfl, ?_⟩
    refine gx_astore_nq (r := r2) (L' := [(3, va_rf r2), (0, va_rf (some a0)), (1, .int x1), (2, .int x2)]) h (Nat.le_of_ble_eq_true rfl) rfl dX0_shared_5 ?_
    refine gx_aload_nq (r := some a0) h 1 rfl dX0_shared_6 ?_
    refine gx_iload_n h 3 rfl dX0_shared_7 ?_
    obtain ⟨c8, s8, hb8, k⟩ := k
    refine gcc_X0_162 (r := some a0) (a0 := x2) h rfl ⟨Nat.le_refl _, Nat.le_refl _⟩ hb8 rfl k.1 (Nat.le_of_ble_eq_true rfl) dX0_shared_8 (gx_C.mono k.2 ?_)
    rintro o σ8 (⟨r8, rfl, k⟩ | ⟨a8, rfl, k⟩)
    · refine Or.inl ⟨r8, rfl, ?_⟩
      refine gx_astoreq (r := r8) (L' := [(4, va_rf r8), (3, va_rf r2), (0, va_rf (some a0)), (1, .int x1), (2, .int x2)]) h (Nat.le_of_ble_eq_true rfl) (by generalize r2 = z; cases z <;> rfl) dX0_shared_11 ?_
      refine gx_aload_nq (r := some a0) h 2 rfl dX0_shared_13 ?_
      refine gcg_X0_80 h rfl rfl k.1 dX0_shared_14 ?_
      replace k := k.2
      obtain ⟨a17_1, e17_1, k⟩ := k
      refine gcc_X0_308 (r := gc_R σ8 9 a0)  h rfl ⟨Nat.le_refl _, Nat.le_refl _⟩ e17_1 k.1 (Nat.le_of_ble_eq_true rfl) dX0_shared_17 (gx_C.mono k.2 ?_)
      rintro _ σ17 ⟨rfl, k⟩
      refine ⟨rfl, ?_⟩
      refine gx_aload_nq (r := some a0) h 2 rfl dX0_shared_20 ?_
      refine gcg_X0_80 h rfl rfl k.1 dX0_shared_21 ?_
      replace k := k.2
      refine gx_aloadq (r := r8) h 0 rfl dX0_shared_24 ?_
      obtain ⟨a26_2, e26_2, k⟩ := k
      obtain ⟨c26, s26, hb26, k⟩ := k
      refine gcc_X0_311 (r := gc_R σ17 9 a0) (a0 := r8) h rfl ⟨Nat.le_refl _, Nat.le_refl _⟩ hb26 e26_2 k.1 (Nat.le_of_ble_eq_true rfl) dX0_shared_26 (gx_C.mono k.2 ?_)
      rintro _ σ26 ⟨rfl, k⟩
      refine ⟨rfl, ?_⟩
      refine gx_aload_nq (r := some a0) h 2 rfl dX0_shared_29 ?_
      refine gcg_X0_80 h rfl rfl k.1 dX0_shared_30 ?_
      replace k := k.2
      obtain ⟨a33_3, e33_3, k⟩ := k
      refine gcg_X0_317 h rfl e33_3 k.1 dX0_shared_33 ?_
      replace k := k.2
      refine gx_istore (L' := [(5, .int (gc_I σ26 501 a33_3)), (4, va_rf r8), (3, va_rf r2), (0, va_rf (some a0)), (1, .int x1), (2, .int x2)]) h (Nat.le_of_ble_eq_true rfl) (by generalize r8 = z; cases z <;> rfl) dX0_shared_36 ?_
      refine gx_aload_nq (r := some a0) h 3 rfl dX0_shared_38 ?_
      refine gcg_X0_80 h rfl rfl k.1 dX0_shared_39 ?_
      replace k := k.2
      refine gx_aload_nq (r := r2) h 2 rfl dX0_shared_42 ?_
      obtain ⟨c43, s43, hb43, k⟩ := k
      refine gcc_X0_311 (r := gc_R σ26 9 a0) (a0 := r2) h rfl ⟨Nat.le_refl _, Nat.le_refl _⟩ hb43 e33_3 k.1 (Nat.le_of_ble_eq_true rfl) dX0_shared_43 (gx_C.mono k.2 ?_)
      rintro _ σ43 ⟨rfl, k⟩
      refine ⟨rfl, ?_⟩
      refine gx_iconst (v := 0) h dX0_shared_46 (by decide) ?_
      refine gx_istore (L' := [(6, .int 0), (5, .int (gc_I σ26 501 a33_3)), (4, va_rf r8), (3, va_rf r2), (0, va_rf (some a0)), (1, .int x1), (2, .int x2)]) h (Nat.le_of_ble_eq_true rfl) rfl dX0_shared_47 ?_
      refine gx_iconst (v := 0) h dX0_shared_49 (by decide) ?_
      refine gx_istore (L' := [(7, .int 0), (6, .int 0), (5, .int (gc_I σ26 501 a33_3)), (4, va_rf r8), (3, va_rf r2), (0, va_rf (some a0)), (1, .int x1), (2, .int x2)]) h (Nat.le_of_ble_eq_true rfl) rfl dX0_shared_50 ?_
      exact gx_sub [5, 4, 2, 1, 0] rfl k
    · refine Or.inr ⟨a8, rfl, ?_⟩
      refine gc_catchF h rfl q107 q109 [] ⟨0, 94, 95, 33⟩ [] rfl rfl rfl rfl k.1 ?_
      replace k := k.2
      exact gx_sub [1] rfl k
  · refine Or.inr ⟨a2, rfl, ?_⟩
    refine gc_catchF h rfl q107 q109 [] ⟨0, 94, 95, 33⟩ [] rfl rfl rfl rfl k.1 ?_
    replace k := k.2
    exact gx_sub [0] rfl k
theorem bc_X0_shared_52 {θ : gc_T} {K : gx_K} {P : Int32 → gc_S → Prop} {σ : gc_S} {x5 x6 x7 : Int32} {x3 : Option Nat} {a0 n c s bc bs : Nat} (h : gc_K θ K (nX0_shared (n + 1) c s)) (k : ∃ a55_1 : Nat, x3 = some a55_1 ∧ gc_is σ a55_1 7 ∧ (((gc_I σ 703 a55_1) ≤ x7 → P x6 σ) ∧ (¬ (gc_I σ 703 a55_1) ≤ x7 → gc_is σ a55_1 7 ∧ ∃ a69_2 : Nat, gc_R σ 701 a55_1 = some a69_2 ∧ gc_is σ a69_2 18 ∧ vp_in x7 (gc_n σ a69_2) ∧ ∃ a70_3 : Nat, gc_Q σ a69_2 x7.toNatClampNeg = some a70_3 ∧ gc_isN σ a70_3 ∧ ((x5 ≤ (gc_I σ 809 a70_3) → gc_G θ K (nX0_shared (n + 1) c s) (gc_Pi P) 52 [(0, va_rf (some a0)), (3, va_rf x3), (5, .int x5), (6, .int (x6 + 0)), (7, .int (x7 + 1))] [] σ bc bs) ∧ (¬ x5 ≤ (gc_I σ 809 a70_3) → gc_G θ K (nX0_shared (n + 1) c s) (gc_Pi P) 52 [(0, va_rf (some a0)), (3, va_rf x3), (5, .int x5), (6, .int (x6 + 1)), (7, .int (x7 + 1))] [] σ bc bs))))) : gc_G θ K (nX0_shared (n + 1) c s) (gc_Pi P) 52 [(0, va_rf (some a0)), (3, va_rf x3), (5, .int x5), (6, .int x6), (7, .int x7)] [] σ bc bs := by
  refine gx_iload h 4 rfl dX0_shared_52 ?_
  refine gx_aload_nq (r := x3) h 1 rfl dX0_shared_54 ?_
  obtain ⟨a55_1, e55_1, k⟩ := k
  refine gcg_X0_152 h rfl e55_1 k.1 dX0_shared_55 ?_
  replace k := k.2
  refine gx_icmp_ge (tgt := 92) h (by decide) dX0_shared_58 (fun c => ?_) (fun c => ?_)
  · replace k := k.1 c
    refine gx_iload h 3 rfl dX0_shared_92 ?_
    exact gx_iret h rfl dX0_shared_94 (⟨_, rfl, k⟩)
  · replace k := k.2 c
    refine gx_iload h 3 rfl dX0_shared_61 ?_
    refine gx_aload_nq (r := x3) h 1 rfl dX0_shared_63 ?_
    refine gcg_X0_155 h rfl e55_1 k.1 dX0_shared_64 ?_
    replace k := k.2
    refine gx_iload h 4 rfl dX0_shared_67 ?_
    obtain ⟨a69_2, e69_2, k⟩ := k
    refine gc_aald18E (r := gc_R σ 701 a55_1) h e69_2 k.1 k.2.1 dX0_shared_69 ?_
    replace k := k.2.2
    obtain ⟨a70_3, e70_3, k⟩ := k
    refine gcg_X0_314 h rfl e70_3 k.1 dX0_shared_70 ?_
    replace k := k.2
    refine gx_iload h 2 rfl dX0_shared_73 ?_
    refine gx_icmp_ge (tgt := 82) h (by decide) dX0_shared_75 (fun c => ?_) (fun c => ?_)
    · replace k := k.1 c
      refine gx_iconst (v := 0) h dX0_shared_82 (by decide) ?_
      refine gx_iadd h dX0_shared_83 ?_
      refine gx_istore (L' := [(6, .int (x6 + 0)), (0, va_rf (some a0)), (3, va_rf x3), (5, .int x5), (7, .int x7)]) h (Nat.le_of_ble_eq_true rfl) rfl dX0_shared_84 ?_
      refine gx_iinc (v := x7 + 1) (L' := [(7, .int (x7 + 1)), (6, .int (x6 + 0)), (0, va_rf (some a0)), (3, va_rf x3), (5, .int x5)]) h 4 rfl rfl (Nat.le_of_ble_eq_true rfl) rfl dX0_shared_86 ?_
      refine gx_goto (tgt := 52) h (by decide) dX0_shared_89 ?_
      exact gx_sub [2, 3, 4, 1, 0] rfl k
    · replace k := k.2 c
      refine gx_iconst (v := 1) h dX0_shared_78 (by decide) ?_
      refine gx_goto (tgt := 83) h (by decide) dX0_shared_79 ?_
      refine gx_iadd h dX0_shared_83 ?_
      refine gx_istore (L' := [(6, .int (x6 + 1)), (0, va_rf (some a0)), (3, va_rf x3), (5, .int x5), (7, .int x7)]) h (Nat.le_of_ble_eq_true rfl) rfl dX0_shared_84 ?_
      refine gx_iinc (v := x7 + 1) (L' := [(7, .int (x7 + 1)), (6, .int (x6 + 1)), (0, va_rf (some a0)), (3, va_rf x3), (5, .int x5)]) h 4 rfl rfl (Nat.le_of_ble_eq_true rfl) rfl dX0_shared_86 ?_
      refine gx_goto (tgt := 52) h (by decide) dX0_shared_89 ?_
      exact gx_sub [2, 3, 4, 1, 0] rfl k
theorem bc_X0_shared_95 {θ : gc_T} {K : gx_K} {P : Int32 → gc_S → Prop} {σ : gc_S} {a0 s0 n c s bc bs : Nat} (h : gc_K θ K (nX0_shared (n + 1) c s)) (k : gc_is σ a0 0 ∧ gx_C (gc_O θ) (nX0_finds n) (.ref a0 :: [va_rf (some s0)]) σ (gc_Pi (fun r98 σ98 => P r98 σ98))) : gc_G θ K (nX0_shared (n + 1) c s) (gc_Pi P) 95 [(0, va_rf (some a0))] [va_rf (some s0)] σ bc bs := by
  refine gx_astore_nq (r := some s0) (L' := [(3, va_rf (some s0)), (0, va_rf (some a0))]) h (Nat.le_of_ble_eq_true rfl) rfl dX0_shared_95 ?_
  refine gx_aload_nq (r := some a0) h 1 rfl dX0_shared_96 ?_
  refine gx_aload_nq (r := some s0) h 0 rfl dX0_shared_97 ?_
  refine gcc_X0_138 (r := some a0) (a0 := some s0) h rfl ⟨Nat.le_refl _, Nat.le_refl _⟩ rfl k.1 (Nat.le_of_ble_eq_true rfl) dX0_shared_98 (gx_C.mono k.2 ?_)
  rintro _ σ98 ⟨r98, rfl, k⟩
  refine ⟨r98, rfl, ?_⟩
  exact gx_iret h rfl dX0_shared_101 (⟨_, rfl, k⟩)
/-! X0.merge -/
theorem ec_X0_merge {θ : gc_T} {P : Int32 → gc_S → Prop} {σ : gc_S} {n c s : Nat} {a0 : Nat} {x1 : Int32} {x2 : Int32} {x3 : Int32} {x4 : Int32} (body : ∀ K, gc_K θ K (nX0_merge (n + 1) c s) → gc_G θ K (nX0_merge (n + 1) c s) (gc_Pi P) 0 [(0, va_rf (some a0)), (1, .int x1), (2, .int x2), (3, .int x3), (4, .int x4)] [] σ c s) : gx_C (gc_O θ) (nX0_merge (n + 1) c s) [.ref a0, .int x1, .int x2, .int x3, .int x4] σ (gc_Pi P) :=
  gx_C.intro (gc_z_warm θ) rfl (Nat.le_of_ble_eq_true rfl) body
theorem bc_X0_merge_0 {θ : gc_T} {K : gx_K} {P : Int32 → gc_S → Prop} {σ : gc_S} {x1 x2 x3 x4 : Int32} {a0 n c s bc bs : Nat} (h : gc_K θ K (nX0_merge (n + 1) c s)) (k : ∃ c2 s2 : Nat, (c2 ≤ bc ∧ s2 ≤ bs) ∧ gc_is σ a0 0 ∧ gx_C (gc_O θ) (nX0_tree n c2 s2) (.ref a0 :: [.int x1]) σ (gc_Qr (fun r2 σ2 => ∃ c9 s9 : Nat, (c9 ≤ (bc - c2) ∧ s9 ≤ (bs - s2)) ∧ gc_is σ2 a0 0 ∧ gx_C (gc_O θ) (nX0_tree n c9 s9) (.ref a0 :: [.int x2]) σ2 (gc_Qr (fun r9 σ9 => ∃ c16 s16 : Nat, (c16 ≤ ((bc - c2) - c9) ∧ s16 ≤ ((bs - s2) - s9)) ∧ gc_is σ9 a0 0 ∧ gx_C (gc_O θ) (nX0_tree n c16 s16) (.ref a0 :: [.int x3]) σ9 (gc_Qr (fun r16 σ16 => gx_C (gc_O θ) (nX0_isPlace n) [.int x4] σ16 (gc_Pi (fun r24 σ24 => gc_is σ24 a0 0 ∧ gx_C (gc_O θ) (nX0_need n) (.ref a0 :: [.int r24, .int (-1)]) σ24 (gc_Qv (fun σ28 => gc_is σ28 a0 0 ∧ ∃ a41_1 : Nat, gc_R σ28 10 a0 = some a41_1 ∧ ∃ c41 s41 : Nat, (c41 ≤ (((bc - c2) - c9) - c16) ∧ s41 ≤ (((bs - s2) - s9) - s16)) ∧ gc_is σ28 a41_1 6 ∧ gx_C (gc_O θ) (nX6_merge n c41 s41) (.ref a41_1 :: [va_rf r2, va_rf r9, va_rf r16]) σ28 (gc_Pr (fun r41 σ41 => ((r41 = none → gc_G θ K (nX0_merge (n + 1) c s) (gc_Pi P) 61 [(0, va_rf (some a0)), (4, .int x4), (8, va_rf r41)] [.int 0, va_rf (some a0)] σ41 ((((bc - c2) - c9) - c16) - c41) ((((bs - s2) - s9) - s16) - s41)) ∧ (¬ r41 = none → ∃ a58_2 : Nat, r41 = some a58_2 ∧ gc_is σ41 a58_2 7 ∧ gc_G θ K (nX0_merge (n + 1) c s) (gc_Pi P) 61 [(0, va_rf (some a0)), (4, .int x4), (8, va_rf r41)] [.int (gc_I σ41 703 a58_2), va_rf (some a0)] σ41 ((((bc - c2) - c9) - c16) - c41) ((((bs - s2) - s9) - s16) - s41)))))) (fun a28 σ28 => gc_is σ28 a28 1 ∧ gc_G θ K (nX0_merge (n + 1) c s) (gc_Pi P) 86 [(0, va_rf (some a0))] [va_rf (some a28)] σ28 (((bc - c2) - c9) - c16) (((bs - s2) - s9) - s16)))))) (fun a16 σ16 => gc_is σ16 a16 1 ∧ gc_G θ K (nX0_merge (n + 1) c s) (gc_Pi P) 86 [(0, va_rf (some a0))] [va_rf (some a16)] σ16 (((bc - c2) - c9) - c16) (((bs - s2) - s9) - s16)))) (fun a9 σ9 => gc_is σ9 a9 1 ∧ gc_G θ K (nX0_merge (n + 1) c s) (gc_Pi P) 86 [(0, va_rf (some a0))] [va_rf (some a9)] σ9 ((bc - c2) - c9) ((bs - s2) - s9)))) (fun a2 σ2 => gc_is σ2 a2 1 ∧ gc_G θ K (nX0_merge (n + 1) c s) (gc_Pi P) 86 [(0, va_rf (some a0))] [va_rf (some a2)] σ2 (bc - c2) (bs - s2)))) : gc_G θ K (nX0_merge (n + 1) c s) (gc_Pi P) 0 [(0, va_rf (some a0)), (1, .int x1), (2, .int x2), (3, .int x3), (4, .int x4)] [] σ bc bs := by
  refine gx_aload_nq (r := some a0) h 0 rfl dX0_merge_0 ?_
  refine gx_iload_n h 1 rfl dX0_merge_1 ?_
  obtain ⟨c2, s2, hb2, k⟩ := k
  refine gcc_X0_162 (r := some a0) (a0 := x1) h rfl ⟨Nat.le_refl _, Nat.le_refl _⟩ hb2 rfl k.1 (Nat.le_of_ble_eq_true rfl) dX0_merge_2 (gx_C.mono k.2 ?_)
  rintro o σ2 (⟨r2, rfl, k⟩ | ⟨a2, rfl, k⟩)
  · refine Or.inl ⟨r2, rfl, ?_⟩
    refine gx_astoreq (r := r2) (L' := [(5, va_rf r2), (0, va_rf (some a0)), (1, .int x1), (2, .int x2), (3, .int x3), (4, .int x4)]) h (Nat.le_of_ble_eq_true rfl) rfl dX0_merge_5 ?_
    refine gx_aload_nq (r := some a0) h 1 rfl dX0_merge_7 ?_
    refine gx_iload_n h 3 rfl dX0_merge_8 ?_
    obtain ⟨c9, s9, hb9, k⟩ := k
    refine gcc_X0_162 (r := some a0) (a0 := x2) h rfl ⟨Nat.le_refl _, Nat.le_refl _⟩ hb9 rfl k.1 (Nat.le_of_ble_eq_true rfl) dX0_merge_9 (gx_C.mono k.2 ?_)
    rintro o σ9 (⟨r9, rfl, k⟩ | ⟨a9, rfl, k⟩)
    · refine Or.inl ⟨r9, rfl, ?_⟩
      refine gx_astoreq (r := r9) (L' := [(6, va_rf r9), (5, va_rf r2), (0, va_rf (some a0)), (1, .int x1), (2, .int x2), (3, .int x3), (4, .int x4)]) h (Nat.le_of_ble_eq_true rfl) (by generalize r2 = z; cases z <;> rfl) dX0_merge_12 ?_
      refine gx_aload_nq (r := some a0) h 2 rfl dX0_merge_14 ?_
      refine gx_iload_n h 5 rfl dX0_merge_15 ?_
      obtain ⟨c16, s16, hb16, k⟩ := k
      refine gcc_X0_162 (r := some a0) (a0 := x3) h rfl ⟨Nat.le_refl _, Nat.le_refl _⟩ hb16 rfl k.1 (Nat.le_of_ble_eq_true rfl) dX0_merge_16 (gx_C.mono k.2 ?_)
      rintro o σ16 (⟨r16, rfl, k⟩ | ⟨a16, rfl, k⟩)
      · refine Or.inl ⟨r16, rfl, ?_⟩
        refine gx_astoreq (r := r16) (L' := [(7, va_rf r16), (6, va_rf r9), (5, va_rf r2), (0, va_rf (some a0)), (1, .int x1), (2, .int x2), (3, .int x3), (4, .int x4)]) h (Nat.le_of_ble_eq_true rfl) (by generalize r9 = z; cases z <;> rfl) dX0_merge_19 ?_
        refine gx_aload_nq (r := some a0) h 3 rfl dX0_merge_21 ?_
        refine gx_iload h 7 rfl dX0_merge_22 ?_
        refine gcc_X0_142 (a0 := x4) h rfl ⟨Nat.le_refl _, Nat.le_refl _⟩ (Nat.le_of_ble_eq_true rfl) dX0_merge_24 (gx_C.mono k ?_)
        rintro _ σ24 ⟨r24, rfl, k⟩
        refine ⟨r24, rfl, ?_⟩
        refine gx_iconst (v := (-1)) h dX0_merge_27 (by decide) ?_
        refine gcc_X0_131 (r := some a0) (a0 := r24) (a1 := (-1)) h rfl ⟨Nat.le_refl _, Nat.le_refl _⟩ rfl k.1 (Nat.le_of_ble_eq_true rfl) dX0_merge_28 (gx_C.mono k.2 ?_)
        rintro o σ28 (⟨rfl, k⟩ | ⟨a28, rfl, k⟩)
        · refine Or.inl ⟨rfl, ?_⟩
          refine gx_aload_nq (r := some a0) h 3 rfl dX0_merge_31 ?_
          refine gcg_X0_87 h rfl rfl k.1 dX0_merge_32 ?_
          replace k := k.2
          refine gx_aloadq (r := r2) h 2 rfl dX0_merge_35 ?_
          refine gx_aloadq (r := r9) h 1 rfl dX0_merge_37 ?_
          refine gx_aloadq (r := r16) h 0 rfl dX0_merge_39 ?_
          obtain ⟨a41_1, e41_1, k⟩ := k
          obtain ⟨c41, s41, hb41, k⟩ := k
          refine gcc_X0_320 (r := gc_R σ28 10 a0) (a0 := r2) (a1 := r9) (a2 := r16) h rfl ⟨Nat.le_refl _, Nat.le_refl _⟩ hb41 e41_1 k.1 (Nat.le_of_ble_eq_true rfl) dX0_merge_41 (gx_C.mono k.2 ?_)
          rintro _ σ41 ⟨r41, rfl, k⟩
          refine ⟨r41, rfl, ?_⟩
          refine gx_astoreq (r := r41) (L' := [(8, va_rf r41), (7, va_rf r16), (6, va_rf r9), (5, va_rf r2), (0, va_rf (some a0)), (1, .int x1), (2, .int x2), (3, .int x3), (4, .int x4)]) h (Nat.le_of_ble_eq_true rfl) (by generalize r16 = z; cases z <;> rfl) dX0_merge_44 ?_
          refine gx_aload_nq (r := some a0) h 4 rfl dX0_merge_46 ?_
          refine gx_aloadq (r := r41) h 0 rfl dX0_merge_47 ?_
          refine gx_ifnonnull (r := r41) (tgt := 56) h (by decide) dX0_merge_49 (fun c => ?_) (fun c => ?_)
          · replace k := k.2 c
            refine gx_aloadq (r := r41) h 0 rfl dX0_merge_56 ?_
            obtain ⟨a58_2, e58_2, k⟩ := k
            refine gcg_X0_152 h rfl e58_2 k.1 dX0_merge_58 ?_
            replace k := k.2
            exact gx_sub [4, 8, 0] rfl k
          · replace k := k.1 c
            refine gx_iconst (v := 0) h dX0_merge_52 (by decide) ?_
            refine gx_goto (tgt := 61) h (by decide) dX0_merge_53 ?_
            exact gx_sub [4, 8, 0] rfl k
        · refine Or.inr ⟨a28, rfl, ?_⟩
          refine gc_catchF h rfl q107 q109 [] ⟨0, 85, 86, 33⟩ [] rfl rfl rfl rfl k.1 ?_
          replace k := k.2
          exact gx_sub [3] rfl k
      · refine Or.inr ⟨a16, rfl, ?_⟩
        refine gc_catchF h rfl q107 q109 [] ⟨0, 85, 86, 33⟩ [] rfl rfl rfl rfl k.1 ?_
        replace k := k.2
        exact gx_sub [2] rfl k
    · refine Or.inr ⟨a9, rfl, ?_⟩
      refine gc_catchF h rfl q107 q109 [] ⟨0, 85, 86, 33⟩ [] rfl rfl rfl rfl k.1 ?_
      replace k := k.2
      exact gx_sub [1] rfl k
  · refine Or.inr ⟨a2, rfl, ?_⟩
    refine gc_catchF h rfl q107 q109 [] ⟨0, 85, 86, 33⟩ [] rfl rfl rfl rfl k.1 ?_
    replace k := k.2
    exact gx_sub [0] rfl k
theorem bc_X0_merge_61 {θ : gc_T} {K : gx_K} {P : Int32 → gc_S → Prop} {σ : gc_S} {x4 s0 : Int32} {x8 s1 : Option Nat} {a0 n c s bc bs : Nat} (h : gc_K θ K (nX0_merge (n + 1) c s)) (k : ∃ a61_1 : Nat, s1 = some a61_1 ∧ gc_is σ a61_1 0 ∧ ∀ σ61, σ61 = gc_sI σ 11 a61_1 s0 → ((x8 = none → gc_G θ K (nX0_merge (n + 1) c s) (gc_Pi P) 78 [(0, va_rf (some a0))] [] σ61 bc bs) ∧ (¬ x8 = none → gc_is σ61 a0 0 ∧ ∃ a77_2 : Nat, gc_R σ61 2 a0 = some a77_2 ∧ gc_is σ61 a77_2 19 ∧ vp_in x4 (gc_n σ61 a77_2) ∧ (∀ v, x8 = some v → gc_is σ61 v 7) ∧ ∀ σ77, σ77 = gc_sQ σ61 a77_2 x4.toNatClampNeg x8 → gc_G θ K (nX0_merge (n + 1) c s) (gc_Pi P) 78 [(0, va_rf (some a0))] [] σ77 bc bs))) : gc_G θ K (nX0_merge (n + 1) c s) (gc_Pi P) 61 [(0, va_rf (some a0)), (4, .int x4), (8, va_rf x8)] [.int s0, va_rf s1] σ bc bs := by
  obtain ⟨a61_1, e61_1, k⟩ := k
  refine gcp_X0_324 (v := s0) h rfl e61_1 k.1 dX0_merge_61 ?_
  generalize hz : gc_sI σ 11 a61_1 s0 = σ61
  replace k := k.2 σ61 hz.symm
  refine gx_aloadq (r := x8) h 2 rfl dX0_merge_64 ?_
  refine gx_ifnull (r := x8) (tgt := 78) h (by decide) dX0_merge_66 (fun c => ?_) (fun c => ?_)
  · replace k := k.1 c
    exact gx_sub [0] rfl k
  · replace k := k.2 c
    refine gx_aload_nq (r := some a0) h 0 rfl dX0_merge_69 ?_
    refine gcg_X0_46 h rfl rfl k.1 dX0_merge_70 ?_
    replace k := k.2
    refine gx_iload h 1 rfl dX0_merge_73 ?_
    refine gx_aloadq (r := x8) h 2 rfl dX0_merge_75 ?_
    obtain ⟨a77_2, e77_2, k⟩ := k
    refine gc_aast19E (r := gc_R σ61 2 a0) (w := x8) h e77_2 k.1 k.2.1 k.2.2.1 dX0_merge_77 ?_
    generalize hz : gc_sQ σ61 a77_2 x4.toNatClampNeg x8 = σ77
    replace k := k.2.2.2 σ77 hz.symm
    exact gx_sub [0] rfl k
theorem bc_X0_merge_78 {θ : gc_T} {K : gx_K} {P : Int32 → gc_S → Prop} {σ : gc_S} {a0 n c s bc bs : Nat} (h : gc_K θ K (nX0_merge (n + 1) c s)) (k : gc_is σ a0 0 ∧ ∃ a82_1 : Nat, gc_R σ 10 a0 = some a82_1 ∧ gc_is σ a82_1 6 ∧ P (gc_I σ 603 a82_1) σ) : gc_G θ K (nX0_merge (n + 1) c s) (gc_Pi P) 78 [(0, va_rf (some a0))] [] σ bc bs := by
  refine gx_aload_nq (r := some a0) h 0 rfl dX0_merge_78 ?_
  refine gcg_X0_87 h rfl rfl k.1 dX0_merge_79 ?_
  replace k := k.2
  obtain ⟨a82_1, e82_1, k⟩ := k
  refine gcg_X0_327 h rfl e82_1 k.1 dX0_merge_82 ?_
  replace k := k.2
  exact gx_iret h rfl dX0_merge_85 (⟨_, rfl, k⟩)
theorem bc_X0_merge_86 {θ : gc_T} {K : gx_K} {P : Int32 → gc_S → Prop} {σ : gc_S} {a0 s0 n c s bc bs : Nat} (h : gc_K θ K (nX0_merge (n + 1) c s)) (k : gc_is σ a0 0 ∧ gx_C (gc_O θ) (nX0_finds n) (.ref a0 :: [va_rf (some s0)]) σ (gc_Pi (fun r91 σ91 => P r91 σ91))) : gc_G θ K (nX0_merge (n + 1) c s) (gc_Pi P) 86 [(0, va_rf (some a0))] [va_rf (some s0)] σ bc bs := by
  refine gx_astoreq (r := some s0) (L' := [(5, va_rf (some s0)), (0, va_rf (some a0))]) h (Nat.le_of_ble_eq_true rfl) rfl dX0_merge_86 ?_
  refine gx_aload_nq (r := some a0) h 1 rfl dX0_merge_88 ?_
  refine gx_aloadq (r := some s0) h 0 rfl dX0_merge_89 ?_
  refine gcc_X0_138 (r := some a0) (a0 := some s0) h rfl ⟨Nat.le_refl _, Nat.le_refl _⟩ rfl k.1 (Nat.le_of_ble_eq_true rfl) dX0_merge_91 (gx_C.mono k.2 ?_)
  rintro _ σ91 ⟨r91, rfl, k⟩
  refine ⟨r91, rfl, ?_⟩
  exact gx_iret h rfl dX0_merge_94 (⟨_, rfl, k⟩)
/-! X0.merged -/
theorem ec_X0_merged {θ : gc_T} {P : Int32 → gc_S → Prop} {σ : gc_S} {n : Nat} {a0 : Nat} (body : ∀ K, gc_K θ K (nX0_merged n) → gc_G θ K (nX0_merged n) (gc_Pi P) 0 [(0, va_rf (some a0))] [] σ 0 0) : gx_C (gc_O θ) (nX0_merged n) [.ref a0] σ (gc_Pi P) :=
  gx_C.intro (gc_z_warm θ) rfl (Nat.le_of_ble_eq_true rfl) body
theorem bc_X0_merged_0 {θ : gc_T} {K : gx_K} {P : Int32 → gc_S → Prop} {σ : gc_S} {a0 n bc bs : Nat} (h : gc_K θ K (nX0_merged n)) (k : gc_is σ a0 0 ∧ P (gc_I σ 11 a0) σ) : gc_G θ K (nX0_merged n) (gc_Pi P) 0 [(0, va_rf (some a0))] [] σ bc bs := by
  refine gx_aload_nq (r := some a0) h 0 rfl dX0_merged_0 ?_
  refine gcg_X0_324 h rfl rfl k.1 dX0_merged_1 ?_
  replace k := k.2
  exact gx_iret h rfl dX0_merged_4 (⟨_, rfl, k⟩)
/-! X0.clash -/
theorem ec_X0_clash {θ : gc_T} {P : Int32 → gc_S → Prop} {σ : gc_S} {n : Nat} {a0 : Nat} {x1 : Int32} {x2 : Int32} (body : ∀ K, gc_K θ K (nX0_clash (n + 1)) → gc_G θ K (nX0_clash (n + 1)) (gc_Pi P) 0 [(0, va_rf (some a0)), (1, .int x1), (2, .int x2)] [] σ 0 0) : gx_C (gc_O θ) (nX0_clash (n + 1)) [.ref a0, .int x1, .int x2] σ (gc_Pi P) :=
  gx_C.intro (gc_z_warm θ) rfl (Nat.le_of_ble_eq_true rfl) body
theorem bc_X0_clash_0 {θ : gc_T} {K : gx_K} {P : Int32 → gc_S → Prop} {σ : gc_S} {x1 x2 : Int32} {a0 n bc bs : Nat} (h : gc_K θ K (nX0_clash (n + 1))) (k : ((x1 < 0 → gc_G θ K (nX0_clash (n + 1)) (gc_Pi P) 20 [(0, va_rf (some a0)), (1, .int x1), (2, .int x2)] [va_rf (some a0)] σ bc bs) ∧ (¬ x1 < 0 → gc_is σ a0 0 ∧ ∃ a10_1 : Nat, gc_R σ 10 a0 = some a10_1 ∧ gc_is σ a10_1 6 ∧ (((gc_I σ 603 a10_1) ≤ x1 → gc_G θ K (nX0_clash (n + 1)) (gc_Pi P) 20 [(0, va_rf (some a0)), (1, .int x1), (2, .int x2)] [va_rf (some a0)] σ bc bs) ∧ (¬ (gc_I σ 603 a10_1) ≤ x1 → gc_G θ K (nX0_clash (n + 1)) (gc_Pi P) 21 [(0, va_rf (some a0)), (1, .int x1), (2, .int x2)] [.int 1, va_rf (some a0)] σ bc bs))))) : gc_G θ K (nX0_clash (n + 1)) (gc_Pi P) 0 [(0, va_rf (some a0)), (1, .int x1), (2, .int x2)] [] σ bc bs := by
  refine gx_aload_nq (r := some a0) h 0 rfl dX0_clash_0 ?_
  refine gx_iload_n h 1 rfl dX0_clash_1 ?_
  refine gx_if_lt (tgt := 20) h (by decide) dX0_clash_2 (fun c => ?_) (fun c => ?_)
  · replace k := k.1 c
    exact k
  · replace k := k.2 c
    refine gx_iload_n h 1 rfl dX0_clash_5 ?_
    refine gx_aload_nq (r := some a0) h 0 rfl dX0_clash_6 ?_
    refine gcg_X0_87 h rfl rfl k.1 dX0_clash_7 ?_
    replace k := k.2
    obtain ⟨a10_1, e10_1, k⟩ := k
    refine gcg_X0_327 h rfl e10_1 k.1 dX0_clash_10 ?_
    replace k := k.2
    refine gx_icmp_ge (tgt := 20) h (by decide) dX0_clash_13 (fun c => ?_) (fun c => ?_)
    · replace k := k.1 c
      exact k
    · replace k := k.2 c
      refine gx_iconst (v := 1) h dX0_clash_16 (by decide) ?_
      refine gx_goto (tgt := 21) h (by decide) dX0_clash_17 ?_
      exact k
theorem bc_X0_clash_20 {θ : gc_T} {K : gx_K} {P : Int32 → gc_S → Prop} {σ : gc_S} {x1 x2 : Int32} {s0 : Option Nat} {a0 n bc bs : Nat} (h : gc_K θ K (nX0_clash (n + 1))) (k : gc_G θ K (nX0_clash (n + 1)) (gc_Pi P) 21 [(0, va_rf (some a0)), (1, .int x1), (2, .int x2)] [.int 0, va_rf s0] σ bc bs) : gc_G θ K (nX0_clash (n + 1)) (gc_Pi P) 20 [(0, va_rf (some a0)), (1, .int x1), (2, .int x2)] [va_rf s0] σ bc bs := by
  refine gx_iconst (v := 0) h dX0_clash_20 (by decide) ?_
  exact k
theorem bc_X0_clash_21 {θ : gc_T} {K : gx_K} {P : Int32 → gc_S → Prop} {σ : gc_S} {x1 x2 s0 : Int32} {s1 : Option Nat} {a0 n bc bs : Nat} (h : gc_K θ K (nX0_clash (n + 1))) (k : ∃ a23_1 : Nat, s1 = some a23_1 ∧ gc_is σ a23_1 0 ∧ gx_C (gc_O θ) (nX0_need n) (.ref a23_1 :: [.int s0, .int (-6)]) σ (gc_Qv (fun σ23 => ((x2 = 0 → gc_G θ K (nX0_clash (n + 1)) (gc_Pi P) 36 [(0, va_rf (some a0)), (1, .int x1), (2, .int x2)] [va_rf (some a0)] σ23 bc bs) ∧ (¬ x2 = 0 → ((x2 = 1 → gc_G θ K (nX0_clash (n + 1)) (gc_Pi P) 36 [(0, va_rf (some a0)), (1, .int x1), (2, .int x2)] [va_rf (some a0)] σ23 bc bs) ∧ (¬ x2 = 1 → gc_G θ K (nX0_clash (n + 1)) (gc_Pi P) 41 [(0, va_rf (some a0)), (1, .int x1), (2, .int x2)] [.int 0, va_rf (some a0)] σ23 bc bs))))) (fun a23 σ23 => gc_is σ23 a23 1 ∧ gc_G θ K (nX0_clash (n + 1)) (gc_Pi P) 71 [(0, va_rf (some a0))] [va_rf (some a23)] σ23 bc bs))) : gc_G θ K (nX0_clash (n + 1)) (gc_Pi P) 21 [(0, va_rf (some a0)), (1, .int x1), (2, .int x2)] [.int s0, va_rf s1] σ bc bs := by
  refine gx_bipush (v := (-6)) h dX0_clash_21 (by decide) ?_
  obtain ⟨a23_1, e23_1, k⟩ := k
  refine gcc_X0_131 (r := s1) (a0 := s0) (a1 := (-6)) h rfl ⟨Nat.le_refl _, Nat.le_refl _⟩ e23_1 k.1 (Nat.le_of_ble_eq_true rfl) dX0_clash_23 (gx_C.mono k.2 ?_)
  rintro o σ23 (⟨rfl, k⟩ | ⟨a23, rfl, k⟩)
  · refine Or.inl ⟨rfl, ?_⟩
    refine gx_aload_nq (r := some a0) h 0 rfl dX0_clash_26 ?_
    refine gx_iload_n h 2 rfl dX0_clash_27 ?_
    refine gx_if_eq (tgt := 36) h (by decide) dX0_clash_28 (fun c => ?_) (fun c => ?_)
    · replace k := k.1 c
      exact k
    · replace k := k.2 c
      refine gx_iload_n h 2 rfl dX0_clash_31 ?_
      refine gx_iconst (v := 1) h dX0_clash_32 (by decide) ?_
      refine gx_icmp_ne (tgt := 40) h (by decide) dX0_clash_33 (fun c => ?_) (fun c => ?_)
      · replace k := k.2 c
        refine gx_iconst (v := 0) h dX0_clash_40 (by decide) ?_
        exact k
      · replace k := k.1 c
        exact k
  · refine Or.inr ⟨a23, rfl, ?_⟩
    refine gc_catchF h rfl q107 q109 [] ⟨0, 70, 71, 33⟩ [] rfl rfl rfl rfl k.1 ?_
    replace k := k.2
    exact gx_sub [0] rfl k
theorem bc_X0_clash_36 {θ : gc_T} {K : gx_K} {P : Int32 → gc_S → Prop} {σ : gc_S} {x1 x2 : Int32} {s0 : Option Nat} {a0 n bc bs : Nat} (h : gc_K θ K (nX0_clash (n + 1))) (k : gc_G θ K (nX0_clash (n + 1)) (gc_Pi P) 41 [(0, va_rf (some a0)), (1, .int x1), (2, .int x2)] [.int 1, va_rf s0] σ bc bs) : gc_G θ K (nX0_clash (n + 1)) (gc_Pi P) 36 [(0, va_rf (some a0)), (1, .int x1), (2, .int x2)] [va_rf s0] σ bc bs := by
  refine gx_iconst (v := 1) h dX0_clash_36 (by decide) ?_
  refine gx_goto (tgt := 41) h (by decide) dX0_clash_37 ?_
  exact k
theorem bc_X0_clash_41 {θ : gc_T} {K : gx_K} {P : Int32 → gc_S → Prop} {σ : gc_S} {x1 x2 s0 : Int32} {s1 : Option Nat} {a0 n bc bs : Nat} (h : gc_K θ K (nX0_clash (n + 1))) (k : ∃ a42_1 : Nat, s1 = some a42_1 ∧ gc_is σ a42_1 0 ∧ gx_C (gc_O θ) (nX0_need n) (.ref a42_1 :: [.int s0, .int (-1)]) σ (gc_Qv (fun σ42 => ((x2 = 0 → gc_is σ42 a0 0 ∧ ∃ a53_4 : Nat, gc_R σ42 10 a0 = some a53_4 ∧ gc_is σ42 a53_4 6 ∧ ∃ a57_5 : Nat, gc_R σ42 601 a53_4 = some a57_5 ∧ gc_is σ42 a57_5 14 ∧ vp_in x1 (gc_n σ42 a57_5) ∧ P (gc_E σ42 a57_5 x1.toNatClampNeg) σ42) ∧ (¬ x2 = 0 → gc_is σ42 a0 0 ∧ ∃ a65_2 : Nat, gc_R σ42 10 a0 = some a65_2 ∧ gc_is σ42 a65_2 6 ∧ ∃ a69_3 : Nat, gc_R σ42 602 a65_2 = some a69_3 ∧ gc_is σ42 a69_3 14 ∧ vp_in x1 (gc_n σ42 a69_3) ∧ P (gc_E σ42 a69_3 x1.toNatClampNeg) σ42))) (fun a42 σ42 => gc_is σ42 a42 1 ∧ gc_G θ K (nX0_clash (n + 1)) (gc_Pi P) 71 [(0, va_rf (some a0))] [va_rf (some a42)] σ42 bc bs))) : gc_G θ K (nX0_clash (n + 1)) (gc_Pi P) 41 [(0, va_rf (some a0)), (1, .int x1), (2, .int x2)] [.int s0, va_rf s1] σ bc bs := by
  refine gx_iconst (v := (-1)) h dX0_clash_41 (by decide) ?_
  obtain ⟨a42_1, e42_1, k⟩ := k
  refine gcc_X0_131 (r := s1) (a0 := s0) (a1 := (-1)) h rfl ⟨Nat.le_refl _, Nat.le_refl _⟩ e42_1 k.1 (Nat.le_of_ble_eq_true rfl) dX0_clash_42 (gx_C.mono k.2 ?_)
  rintro o σ42 (⟨rfl, k⟩ | ⟨a42, rfl, k⟩)
  · refine Or.inl ⟨rfl, ?_⟩
    refine gx_iload_n h 2 rfl dX0_clash_45 ?_
    refine gx_if_ne (tgt := 61) h (by decide) dX0_clash_46 (fun c => ?_) (fun c => ?_)
    · replace k := k.2 c
      refine gx_aload_nq (r := some a0) h 0 rfl dX0_clash_61 ?_
      refine gcg_X0_87 h rfl rfl k.1 dX0_clash_62 ?_
      replace k := k.2
      obtain ⟨a65_2, e65_2, k⟩ := k
      refine gcg_X0_332 h rfl e65_2 k.1 dX0_clash_65 ?_
      replace k := k.2
      refine gx_iload_n h 1 rfl dX0_clash_68 ?_
      obtain ⟨a69_3, e69_3, k⟩ := k
      refine gc_ialdE (r := gc_R σ42 602 a65_2) h e69_3 k.1 k.2.1 dX0_clash_69 ?_
      replace k := k.2.2
      exact gx_iret h rfl dX0_clash_70 (⟨_, rfl, k⟩)
    · replace k := k.1 c
      refine gx_aload_nq (r := some a0) h 0 rfl dX0_clash_49 ?_
      refine gcg_X0_87 h rfl rfl k.1 dX0_clash_50 ?_
      replace k := k.2
      obtain ⟨a53_4, e53_4, k⟩ := k
      refine gcg_X0_329 h rfl e53_4 k.1 dX0_clash_53 ?_
      replace k := k.2
      refine gx_iload_n h 1 rfl dX0_clash_56 ?_
      obtain ⟨a57_5, e57_5, k⟩ := k
      refine gc_ialdE (r := gc_R σ42 601 a53_4) h e57_5 k.1 k.2.1 dX0_clash_57 ?_
      replace k := k.2.2
      refine gx_goto (tgt := 70) h (by decide) dX0_clash_58 ?_
      exact gx_iret h rfl dX0_clash_70 (⟨_, rfl, k⟩)
  · refine Or.inr ⟨a42, rfl, ?_⟩
    refine gc_catchF h rfl q107 q109 [] ⟨0, 70, 71, 33⟩ [] rfl rfl rfl rfl k.1 ?_
    replace k := k.2
    exact gx_sub [0] rfl k
theorem bc_X0_clash_71 {θ : gc_T} {K : gx_K} {P : Int32 → gc_S → Prop} {σ : gc_S} {a0 s0 n bc bs : Nat} (h : gc_K θ K (nX0_clash (n + 1))) (k : gc_is σ a0 0 ∧ gx_C (gc_O θ) (nX0_finds n) (.ref a0 :: [va_rf (some s0)]) σ (gc_Pi (fun r74 σ74 => P r74 σ74))) : gc_G θ K (nX0_clash (n + 1)) (gc_Pi P) 71 [(0, va_rf (some a0))] [va_rf (some s0)] σ bc bs := by
  refine gx_astore_nq (r := some s0) (L' := [(3, va_rf (some s0)), (0, va_rf (some a0))]) h (Nat.le_of_ble_eq_true rfl) rfl dX0_clash_71 ?_
  refine gx_aload_nq (r := some a0) h 1 rfl dX0_clash_72 ?_
  refine gx_aload_nq (r := some s0) h 0 rfl dX0_clash_73 ?_
  refine gcc_X0_138 (r := some a0) (a0 := some s0) h rfl ⟨Nat.le_refl _, Nat.le_refl _⟩ rfl k.1 (Nat.le_of_ble_eq_true rfl) dX0_clash_74 (gx_C.mono k.2 ?_)
  rintro _ σ74 ⟨r74, rfl, k⟩
  refine ⟨r74, rfl, ?_⟩
  exact gx_iret h rfl dX0_clash_77 (⟨_, rfl, k⟩)
