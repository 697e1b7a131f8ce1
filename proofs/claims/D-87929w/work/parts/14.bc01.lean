set_option maxRecDepth 100000
/-! X0.size -/
theorem ec_X0_size {θ : gc_T} {P : Int32 → gc_S → Prop} {σ : gc_S} {n c s : Nat} {a0 : Nat} {x1 : Int32} (body : ∀ K, gc_K θ K (nX0_size (n + 1) c s) → gc_G θ K (nX0_size (n + 1) c s) (gc_Pi P) 0 [(0, va_rf (some a0)), (1, .int x1)] [] σ c s) : gx_C (gc_O θ) (nX0_size (n + 1) c s) [.ref a0, .int x1] σ (gc_Pi P) :=
  gx_C.intro (gc_z_warm θ) rfl (Nat.le_of_ble_eq_true rfl) body
theorem bc_X0_size_0 {θ : gc_T} {K : gx_K} {P : Int32 → gc_S → Prop} {σ : gc_S} {x1 : Int32} {a0 n c s bc bs : Nat} (h : gc_K θ K (nX0_size (n + 1) c s)) (k : ∃ c2 s2 : Nat, (c2 ≤ bc ∧ s2 ≤ bs) ∧ gc_is σ a0 0 ∧ gx_C (gc_O θ) (nX0_tree n c2 s2) (.ref a0 :: [.int x1]) σ (gc_Qr (fun r2 σ2 => ∃ a5_1 : Nat, r2 = some a5_1 ∧ gc_is σ2 a5_1 7 ∧ P (gc_I σ2 703 a5_1) σ2) (fun a2 σ2 => gc_is σ2 a2 1 ∧ gc_G θ K (nX0_size (n + 1) c s) (gc_Pi P) 9 [(0, va_rf (some a0))] [va_rf (some a2)] σ2 (bc - c2) (bs - s2)))) : gc_G θ K (nX0_size (n + 1) c s) (gc_Pi P) 0 [(0, va_rf (some a0)), (1, .int x1)] [] σ bc bs := by
  refine gx_aload_nq (r := some a0) h 0 rfl dX0_size_0 ?_
  refine gx_iload_n h 1 rfl dX0_size_1 ?_
  obtain ⟨c2, s2, hb2, k⟩ := k
  refine gcc_X0_162 (r := some a0) (a0 := x1) h rfl ⟨Nat.le_refl _, Nat.le_refl _⟩ hb2 rfl k.1 (Nat.le_of_ble_eq_true rfl) dX0_size_2 (gx_C.mono k.2 ?_)
  rintro o σ2 (⟨r2, rfl, k⟩ | ⟨a2, rfl, k⟩)
  · refine Or.inl ⟨r2, rfl, ?_⟩
    obtain ⟨a5_1, e5_1, k⟩ := k
    refine gcg_X0_152 h rfl e5_1 k.1 dX0_size_5 ?_
    replace k := k.2
    exact gx_iret h rfl dX0_size_8 (⟨_, rfl, k⟩)
  · refine Or.inr ⟨a2, rfl, ?_⟩
    refine gc_catchF h rfl q107 q109 [] ⟨0, 8, 9, 33⟩ [] rfl rfl rfl rfl k.1 ?_
    replace k := k.2
    exact gx_sub [0] rfl k
theorem bc_X0_size_9 {θ : gc_T} {K : gx_K} {P : Int32 → gc_S → Prop} {σ : gc_S} {a0 s0 n c s bc bs : Nat} (h : gc_K θ K (nX0_size (n + 1) c s)) (k : gc_is σ a0 0 ∧ gx_C (gc_O θ) (nX0_finds n) (.ref a0 :: [va_rf (some s0)]) σ (gc_Pi (fun r12 σ12 => P r12 σ12))) : gc_G θ K (nX0_size (n + 1) c s) (gc_Pi P) 9 [(0, va_rf (some a0))] [va_rf (some s0)] σ bc bs := by
  refine gx_astore_nq (r := some s0) (L' := [(2, va_rf (some s0)), (0, va_rf (some a0))]) h (Nat.le_of_ble_eq_true rfl) rfl dX0_size_9 ?_
  refine gx_aload_nq (r := some a0) h 1 rfl dX0_size_10 ?_
  refine gx_aload_nq (r := some s0) h 0 rfl dX0_size_11 ?_
  refine gcc_X0_138 (r := some a0) (a0 := some s0) h rfl ⟨Nat.le_refl _, Nat.le_refl _⟩ rfl k.1 (Nat.le_of_ble_eq_true rfl) dX0_size_12 (gx_C.mono k.2 ?_)
  rintro _ σ12 ⟨r12, rfl, k⟩
  refine ⟨r12, rfl, ?_⟩
  exact gx_iret h rfl dX0_size_15 (⟨_, rfl, k⟩)
/-! X0.relabel -/
theorem ec_X0_relabel {θ : gc_T} {P : Int32 → gc_S → Prop} {σ : gc_S} {n c s : Nat} {a0 : Nat} {x1 : Int32} {x2 : Int32} (body : ∀ K, gc_K θ K (nX0_relabel (n + 1) c s) → gc_G θ K (nX0_relabel (n + 1) c s) (gc_Pi P) 0 [(0, va_rf (some a0)), (1, .int x1), (2, .int x2)] [] σ c s) : gx_C (gc_O θ) (nX0_relabel (n + 1) c s) [.ref a0, .int x1, .int x2] σ (gc_Pi P) :=
  gx_C.intro (gc_z_warm θ) rfl (Nat.le_of_ble_eq_true rfl) body
theorem bc_X0_relabel_0 {θ : gc_T} {K : gx_K} {P : Int32 → gc_S → Prop} {σ : gc_S} {x1 x2 : Int32} {a0 n c s bc bs : Nat} (h : gc_K θ K (nX0_relabel (n + 1) c s)) (k : ∃ c2 s2 : Nat, (c2 ≤ bc ∧ s2 ≤ bs) ∧ gc_is σ a0 0 ∧ gx_C (gc_O θ) (nX0_tree n c2 s2) (.ref a0 :: [.int x1]) σ (gc_Qr (fun r2 σ2 => gc_is σ2 a0 0 ∧ gx_C (gc_O θ) (nX0_node_2 n) (.ref a0 :: [va_rf r2, .int x2]) σ2 (gc_Qr (fun r9 σ9 => ∃ c15 s15 : Nat, (c15 ≤ (bc - c2) ∧ s15 ≤ (bs - s2)) ∧ gc_is σ9 a0 0 ∧ gx_C (gc_O θ) (nX0_taken n c15 s15) (.ref a0 :: []) σ9 (gc_Pr (fun r15 σ15 => gx_C (gc_O θ) (nX0_isLabel n) [va_rf r15] σ15 (gc_Pi (fun r23 σ23 => gc_is σ23 a0 0 ∧ gx_C (gc_O θ) (nX0_need n) (.ref a0 :: [.int r23, .int (-3)]) σ23 (gc_Qv (fun σ28 => ∃ a33_1 : Nat, r9 = some a33_1 ∧ gc_isN σ28 a33_1 ∧ gc_isN σ28 a33_1 ∧ ∀ σ42, σ42 = gc_sR σ28 801 a33_1 r15 → gc_isN σ42 a33_1 ∧ ((gc_R σ42 803 a33_1 = none → gc_G θ K (nX0_relabel (n + 1) c s) (gc_Pi P) 64 [(0, va_rf (some a0)), (4, va_rf r9), (5, va_rf r15), (6, va_rf (gc_R σ28 801 a33_1))] [] σ42 ((bc - c2) - c15) ((bs - s2) - s15)) ∧ (¬ gc_R σ42 803 a33_1 = none → gc_isN σ42 a33_1 ∧ ∃ a58_2 : Nat, gc_R σ42 803 a33_1 = some a58_2 ∧ gc_isN σ42 a58_2 ∧ vC_clashes θ n σ42 a58_2 [] (gc_Pi (fun r58 σ58 => ((r58 = 0 → gc_G θ K (nX0_relabel (n + 1) c s) (gc_Pi P) 64 [(0, va_rf (some a0)), (4, va_rf r9), (5, va_rf r15), (6, va_rf (gc_R σ28 801 a33_1))] [] σ58 ((bc - c2) - c15) ((bs - s2) - s15)) ∧ (¬ r58 = 0 → gc_G θ K (nX0_relabel (n + 1) c s) (gc_Pi P) 69 [(0, va_rf (some a0)), (4, va_rf r9), (5, va_rf r15), (6, va_rf (gc_R σ28 801 a33_1))] [.int 0] σ58 ((bc - c2) - c15) ((bs - s2) - s15)))))))) (fun a28 σ28 => gc_is σ28 a28 1 ∧ gc_G θ K (nX0_relabel (n + 1) c s) (gc_Pi P) 95 [(0, va_rf (some a0))] [va_rf (some a28)] σ28 ((bc - c2) - c15) ((bs - s2) - s15)))))))) (fun a9 σ9 => gc_is σ9 a9 1 ∧ gc_G θ K (nX0_relabel (n + 1) c s) (gc_Pi P) 95 [(0, va_rf (some a0))] [va_rf (some a9)] σ9 (bc - c2) (bs - s2)))) (fun a2 σ2 => gc_is σ2 a2 1 ∧ gc_G θ K (nX0_relabel (n + 1) c s) (gc_Pi P) 95 [(0, va_rf (some a0))] [va_rf (some a2)] σ2 (bc - c2) (bs - s2)))) : gc_G θ K (nX0_relabel (n + 1) c s) (gc_Pi P) 0 [(0, va_rf (some a0)), (1, .int x1), (2, .int x2)] [] σ bc bs := by
  refine gx_aload_nq (r := some a0) h 0 rfl dX0_relabel_0 ?_
  refine gx_iload_n h 1 rfl dX0_relabel_1 ?_
  obtain ⟨c2, s2, hb2, k⟩ := k
  refine gcc_X0_162 (r := some a0) (a0 := x1) h rfl ⟨Nat.le_refl _, Nat.le_refl _⟩ hb2 rfl k.1 (Nat.le_of_ble_eq_true rfl) dX0_relabel_2 (gx_C.mono k.2 ?_)
  rintro o σ2 (⟨r2, rfl, k⟩ | ⟨a2, rfl, k⟩)
  · refine Or.inl ⟨r2, rfl, ?_⟩
    refine gx_astore_nq (r := r2) (L' := [(3, va_rf r2), (0, va_rf (some a0)), (1, .int x1), (2, .int x2)]) h (Nat.le_of_ble_eq_true rfl) rfl dX0_relabel_5 ?_
    refine gx_aload_nq (r := some a0) h 1 rfl dX0_relabel_6 ?_
    refine gx_aload_nq (r := r2) h 0 rfl dX0_relabel_7 ?_
    refine gx_iload_n h 3 rfl dX0_relabel_8 ?_
    refine gcc_X0_214 (r := some a0) (a0 := r2) (a1 := x2) h rfl ⟨Nat.le_refl _, Nat.le_refl _⟩ rfl k.1 (Nat.le_of_ble_eq_true rfl) dX0_relabel_9 (gx_C.mono k.2 ?_)
    rintro o σ9 (⟨r9, rfl, k⟩ | ⟨a9, rfl, k⟩)
    · refine Or.inl ⟨r9, rfl, ?_⟩
      refine gx_astoreq (r := r9) (L' := [(4, va_rf r9), (3, va_rf r2), (0, va_rf (some a0)), (1, .int x1), (2, .int x2)]) h (Nat.le_of_ble_eq_true rfl) (by generalize r2 = z; cases z <;> rfl) dX0_relabel_12 ?_
      refine gx_aload_nq (r := some a0) h 2 rfl dX0_relabel_14 ?_
      obtain ⟨c15, s15, hb15, k⟩ := k
      refine gcc_X0_217 (r := some a0)  h rfl ⟨Nat.le_refl _, Nat.le_refl _⟩ hb15 rfl k.1 (Nat.le_of_ble_eq_true rfl) dX0_relabel_15 (gx_C.mono k.2 ?_)
      rintro _ σ15 ⟨r15, rfl, k⟩
      refine ⟨r15, rfl, ?_⟩
      refine gx_astoreq (r := r15) (L' := [(5, va_rf r15), (4, va_rf r9), (3, va_rf r2), (0, va_rf (some a0)), (1, .int x1), (2, .int x2)]) h (Nat.le_of_ble_eq_true rfl) (by generalize r9 = z; cases z <;> rfl) dX0_relabel_18 ?_
      refine gx_aload_nq (r := some a0) h 3 rfl dX0_relabel_20 ?_
      refine gx_aloadq (r := r15) h 0 rfl dX0_relabel_21 ?_
      refine gcc_X0_221 (a0 := r15) h rfl ⟨Nat.le_refl _, Nat.le_refl _⟩ (Nat.le_of_ble_eq_true rfl) dX0_relabel_23 (gx_C.mono k ?_)
      rintro _ σ23 ⟨r23, rfl, k⟩
      refine ⟨r23, rfl, ?_⟩
      refine gx_bipush (v := (-3)) h dX0_relabel_26 (by decide) ?_
      refine gcc_X0_131 (r := some a0) (a0 := r23) (a1 := (-3)) h rfl ⟨Nat.le_refl _, Nat.le_refl _⟩ rfl k.1 (Nat.le_of_ble_eq_true rfl) dX0_relabel_28 (gx_C.mono k.2 ?_)
      rintro o σ28 (⟨rfl, k⟩ | ⟨a28, rfl, k⟩)
      · refine Or.inl ⟨rfl, ?_⟩
        refine gx_aloadq (r := r9) h 1 rfl dX0_relabel_31 ?_
        obtain ⟨a33_1, e33_1, k⟩ := k
        refine gcg_X0_201 h rfl e33_1 k.1 dX0_relabel_33 ?_
        replace k := k.2
        refine gx_astoreq (r := gc_R σ28 801 a33_1) (L' := [(6, va_rf (gc_R σ28 801 a33_1)), (5, va_rf r15), (4, va_rf r9), (3, va_rf r2), (0, va_rf (some a0)), (1, .int x1), (2, .int x2)]) h (Nat.le_of_ble_eq_true rfl) (by generalize r15 = z; cases z <;> rfl) dX0_relabel_36 ?_
        refine gx_aloadq (r := r9) h 2 rfl dX0_relabel_38 ?_
        refine gx_aloadq (r := r15) h 1 rfl dX0_relabel_40 ?_
        refine gcp_X0_201 (v := r15) h rfl e33_1 k.1 dX0_relabel_42 ?_
        generalize hz : gc_sR σ28 801 a33_1 r15 = σ42
        replace k := k.2 σ42 hz.symm
        refine gx_aloadq (r := r9) h 2 rfl dX0_relabel_45 ?_
        refine gcg_X0_192 h rfl e33_1 k.1 dX0_relabel_47 ?_
        replace k := k.2
        refine gx_ifnull (r := gc_R σ42 803 a33_1) (tgt := 64) h (by decide) dX0_relabel_50 (fun c => ?_) (fun c => ?_)
        · replace k := k.1 c
          exact gx_sub [4, 2, 1, 0] rfl k
        · replace k := k.2 c
          refine gx_aloadq (r := r9) h 2 rfl dX0_relabel_53 ?_
          refine gcg_X0_192 h rfl e33_1 k.1 dX0_relabel_55 ?_
          replace k := k.2
          obtain ⟨a58_2, e58_2, k⟩ := k
          refine gcc_X0_225 (r := gc_R σ42 803 a33_1)  h rfl ⟨Nat.le_refl _, Nat.le_refl _⟩ e58_2 k.1 (Nat.le_of_ble_eq_true rfl) dX0_relabel_58 (vC_clashes_mono k.2 ?_)
          rintro _ σ58 ⟨r58, rfl, k⟩
          refine ⟨r58, rfl, ?_⟩
          refine gx_if_ne (tgt := 68) h (by decide) dX0_relabel_61 (fun c => ?_) (fun c => ?_)
          · replace k := k.2 c
            refine gx_iconst (v := 0) h dX0_relabel_68 (by decide) ?_
            exact gx_sub [4, 2, 1, 0] rfl k
          · replace k := k.1 c
            exact gx_sub [4, 2, 1, 0] rfl k
      · refine Or.inr ⟨a28, rfl, ?_⟩
        refine gc_catchF h rfl q107 q109 [] ⟨0, 94, 95, 33⟩ [] rfl rfl rfl rfl k.1 ?_
        replace k := k.2
        exact gx_sub [3] rfl k
    · refine Or.inr ⟨a9, rfl, ?_⟩
      refine gc_catchF h rfl q107 q109 [] ⟨0, 94, 95, 33⟩ [] rfl rfl rfl rfl k.1 ?_
      replace k := k.2
      exact gx_sub [1] rfl k
  · refine Or.inr ⟨a2, rfl, ?_⟩
    refine gc_catchF h rfl q107 q109 [] ⟨0, 94, 95, 33⟩ [] rfl rfl rfl rfl k.1 ?_
    replace k := k.2
    exact gx_sub [0] rfl k
theorem bc_X0_relabel_64 {θ : gc_T} {K : gx_K} {P : Int32 → gc_S → Prop} {σ : gc_S} {x4 x5 x6 : Option Nat} {a0 n c s bc bs : Nat} (h : gc_K θ K (nX0_relabel (n + 1) c s)) (k : gc_G θ K (nX0_relabel (n + 1) c s) (gc_Pi P) 69 [(0, va_rf (some a0)), (4, va_rf x4), (5, va_rf x5), (6, va_rf x6)] [.int 1] σ bc bs) : gc_G θ K (nX0_relabel (n + 1) c s) (gc_Pi P) 64 [(0, va_rf (some a0)), (4, va_rf x4), (5, va_rf x5), (6, va_rf x6)] [] σ bc bs := by
  refine gx_iconst (v := 1) h dX0_relabel_64 (by decide) ?_
  refine gx_goto (tgt := 69) h (by decide) dX0_relabel_65 ?_
  exact k
theorem bc_X0_relabel_69 {θ : gc_T} {K : gx_K} {P : Int32 → gc_S → Prop} {σ : gc_S} {s0 : Int32} {x4 x5 x6 : Option Nat} {a0 n c s bc bs : Nat} (h : gc_K θ K (nX0_relabel (n + 1) c s)) (k : ((s0 = 0 → ∃ a80_1 : Nat, x4 = some a80_1 ∧ gc_isN σ a80_1 ∧ ∀ σ80, σ80 = gc_sR σ 801 a80_1 x6 → gc_G θ K (nX0_relabel (n + 1) c s) (gc_Pi P) 83 [(0, va_rf (some a0)), (5, va_rf x5), (7, .int s0)] [] σ80 bc bs) ∧ (¬ s0 = 0 → gc_G θ K (nX0_relabel (n + 1) c s) (gc_Pi P) 83 [(0, va_rf (some a0)), (5, va_rf x5), (7, .int s0)] [] σ bc bs))) : gc_G θ K (nX0_relabel (n + 1) c s) (gc_Pi P) 69 [(0, va_rf (some a0)), (4, va_rf x4), (5, va_rf x5), (6, va_rf x6)] [.int s0] σ bc bs := by
  refine gx_istore (L' := [(7, .int s0), (0, va_rf (some a0)), (4, va_rf x4), (5, va_rf x5), (6, va_rf x6)]) h (Nat.le_of_ble_eq_true rfl) (by generalize x6 = z; cases z <;> rfl) dX0_relabel_69 ?_
  refine gx_iload h 0 rfl dX0_relabel_71 ?_
  refine gx_if_ne (tgt := 83) h (by decide) dX0_relabel_73 (fun c => ?_) (fun c => ?_)
  · replace k := k.2 c
    exact gx_sub [1, 3, 0] rfl k
  · replace k := k.1 c
    refine gx_aloadq (r := x4) h 2 rfl dX0_relabel_76 ?_
    refine gx_aloadq (r := x6) h 4 rfl dX0_relabel_78 ?_
    obtain ⟨a80_1, e80_1, k⟩ := k
    refine gcp_X0_201 (v := x6) h rfl e80_1 k.1 dX0_relabel_80 ?_
    generalize hz : gc_sR σ 801 a80_1 x6 = σ80
    replace k := k.2 σ80 hz.symm
    exact gx_sub [1, 3, 0] rfl k
theorem bc_X0_relabel_83 {θ : gc_T} {K : gx_K} {P : Int32 → gc_S → Prop} {σ : gc_S} {x7 : Int32} {x5 : Option Nat} {a0 n c s bc bs : Nat} (h : gc_K θ K (nX0_relabel (n + 1) c s)) (k : gc_is σ a0 0 ∧ gx_C (gc_O θ) (nX0_need n) (.ref a0 :: [.int x7, .int (-4)]) σ (gc_Qv (fun σ88 => ∃ a93_1 : Nat, x5 = some a93_1 ∧ gc_isB θ σ88 a93_1 ∧ P (Int32.ofNat (gc_n σ88 a93_1)) σ88) (fun a88 σ88 => gc_is σ88 a88 1 ∧ gc_G θ K (nX0_relabel (n + 1) c s) (gc_Pi P) 95 [(0, va_rf (some a0))] [va_rf (some a88)] σ88 bc bs))) : gc_G θ K (nX0_relabel (n + 1) c s) (gc_Pi P) 83 [(0, va_rf (some a0)), (5, va_rf x5), (7, .int x7)] [] σ bc bs := by
  refine gx_aload_nq (r := some a0) h 0 rfl dX0_relabel_83 ?_
  refine gx_iload h 2 rfl dX0_relabel_84 ?_
  refine gx_bipush (v := (-4)) h dX0_relabel_86 (by decide) ?_
  refine gcc_X0_131 (r := some a0) (a0 := x7) (a1 := (-4)) h rfl ⟨Nat.le_refl _, Nat.le_refl _⟩ rfl k.1 (Nat.le_of_ble_eq_true rfl) dX0_relabel_88 (gx_C.mono k.2 ?_)
  rintro o σ88 (⟨rfl, k⟩ | ⟨a88, rfl, k⟩)
  · refine Or.inl ⟨rfl, ?_⟩
    refine gx_aloadq (r := x5) h 1 rfl dX0_relabel_91 ?_
    obtain ⟨a93_1, e93_1, k⟩ := k
    refine gc_alen15E (r := x5) h e93_1 k.1 dX0_relabel_93 ?_
    replace k := k.2
    exact gx_iret h rfl dX0_relabel_94 (⟨_, rfl, k⟩)
  · refine Or.inr ⟨a88, rfl, ?_⟩
    refine gc_catchF h rfl q107 q109 [] ⟨0, 94, 95, 33⟩ [] rfl rfl rfl rfl k.1 ?_
    replace k := k.2
    exact gx_sub [0] rfl k
theorem bc_X0_relabel_95 {θ : gc_T} {K : gx_K} {P : Int32 → gc_S → Prop} {σ : gc_S} {a0 s0 n c s bc bs : Nat} (h : gc_K θ K (nX0_relabel (n + 1) c s)) (k : gc_is σ a0 0 ∧ gx_C (gc_O θ) (nX0_finds n) (.ref a0 :: [va_rf (some s0)]) σ (gc_Pi (fun r98 σ98 => P r98 σ98))) : gc_G θ K (nX0_relabel (n + 1) c s) (gc_Pi P) 95 [(0, va_rf (some a0))] [va_rf (some s0)] σ bc bs := by
  refine gx_astore_nq (r := some s0) (L' := [(3, va_rf (some s0)), (0, va_rf (some a0))]) h (Nat.le_of_ble_eq_true rfl) rfl dX0_relabel_95 ?_
  refine gx_aload_nq (r := some a0) h 1 rfl dX0_relabel_96 ?_
  refine gx_aload_nq (r := some s0) h 0 rfl dX0_relabel_97 ?_
  refine gcc_X0_138 (r := some a0) (a0 := some s0) h rfl ⟨Nat.le_refl _, Nat.le_refl _⟩ rfl k.1 (Nat.le_of_ble_eq_true rfl) dX0_relabel_98 (gx_C.mono k.2 ?_)
  rintro _ σ98 ⟨r98, rfl, k⟩
  refine ⟨r98, rfl, ?_⟩
  exact gx_iret h rfl dX0_relabel_101 (⟨_, rfl, k⟩)
/-! X0.node_2 -/
theorem ec_X0_node_2 {θ : gc_T} {P : Option Nat → gc_S → Prop} {T : Nat → gc_S → Prop} {σ : gc_S} {n : Nat} {a0 : Nat} {x1 : Option Nat} {x2 : Int32} (body : ∀ K, gc_K θ K (nX0_node_2 (n + 1)) → gc_G θ K (nX0_node_2 (n + 1)) (gc_Qr P T) 0 [(0, va_rf (some a0)), (1, va_rf x1), (2, .int x2)] [] σ 0 0) : gx_C (gc_O θ) (nX0_node_2 (n + 1)) [.ref a0, va_rf x1, .int x2] σ (gc_Qr P T) := by
  refine gx_C.intro (gc_z_warm θ) rfl (by cases x1 <;> exact Nat.le_of_ble_eq_true rfl) (fun K h => ?_)
  have k := body K h
  cases x1 <;> exact k
theorem bc_X0_node_2_0 {θ : gc_T} {K : gx_K} {P : Option Nat → gc_S → Prop} {T : Nat → gc_S → Prop} {σ : gc_S} {x2 : Int32} {x1 : Option Nat} {a0 n bc bs : Nat} (h : gc_K θ K (nX0_node_2 (n + 1))) (k : ∃ a2_1 : Nat, x1 = some a2_1 ∧ gc_is σ a2_1 7 ∧ gx_C (gc_O θ) (nX8_find n) (.ref a2_1 :: [.int x2]) σ (gc_Pr (fun r2 σ2 => ((r2 = none → gc_is σ2 a0 0 ∧ gx_C (gc_O θ) (nX0_need n) (.ref a0 :: [.int 0, .int (-6)]) σ2 (gc_Qv (fun σ18 => P r2 σ18) (fun a18 σ18 => T a18 σ18))) ∧ (¬ r2 = none → gc_is σ2 a0 0 ∧ gx_C (gc_O θ) (nX0_need n) (.ref a0 :: [.int 1, .int (-6)]) σ2 (gc_Qv (fun σ18 => P r2 σ18) (fun a18 σ18 => T a18 σ18))))))) : gc_G θ K (nX0_node_2 (n + 1)) (gc_Qr P T) 0 [(0, va_rf (some a0)), (1, va_rf x1), (2, .int x2)] [] σ bc bs := by
  refine gx_aload_nq (r := x1) h 1 rfl dX0_node_2_0 ?_
  refine gx_iload_n h 2 rfl dX0_node_2_1 ?_
  obtain ⟨a2_1, e2_1, k⟩ := k
  refine gcc_X0_127 (r := x1) (a0 := x2) h rfl ⟨Nat.le_refl _, Nat.le_refl _⟩ e2_1 k.1 (Nat.le_of_ble_eq_true rfl) dX0_node_2_2 (gx_C.mono k.2 ?_)
  rintro _ σ2 ⟨r2, rfl, k⟩
  refine ⟨r2, rfl, ?_⟩
  refine gx_astore_nq (r := r2) (L' := [(3, va_rf r2), (0, va_rf (some a0)), (1, va_rf x1), (2, .int x2)]) h (Nat.le_of_ble_eq_true rfl) rfl dX0_node_2_5 ?_
  refine gx_aload_nq (r := some a0) h 1 rfl dX0_node_2_6 ?_
  refine gx_aload_nq (r := r2) h 0 rfl dX0_node_2_7 ?_
  refine gx_ifnull (r := r2) (tgt := 15) h (by decide) dX0_node_2_8 (fun c => ?_) (fun c => ?_)
  · replace k := k.1 c
    refine gx_iconst (v := 0) h dX0_node_2_15 (by decide) ?_
    refine gx_bipush (v := (-6)) h dX0_node_2_16 (by decide) ?_
    refine gcc_X0_131 (r := some a0) (a0 := 0) (a1 := (-6)) h rfl ⟨Nat.le_refl _, Nat.le_refl _⟩ rfl k.1 (Nat.le_of_ble_eq_true rfl) dX0_node_2_18 (gx_C.mono k.2 ?_)
    rintro o σ18 (⟨rfl, k⟩ | ⟨a18, rfl, k⟩)
    · refine Or.inl ⟨rfl, ?_⟩
      refine gx_aload_nq (r := r2) h 0 rfl dX0_node_2_21 ?_
      exact gx_aret (r := r2) h rfl (Or.inl ⟨_, rfl⟩) dX0_node_2_22 (Or.inl ⟨_, rfl, k⟩)
    · refine Or.inr ⟨a18, rfl, ?_⟩
      exact gx_out h rfl (Or.inr ⟨_, rfl, k⟩)
  · replace k := k.2 c
    refine gx_iconst (v := 1) h dX0_node_2_11 (by decide) ?_
    refine gx_goto (tgt := 16) h (by decide) dX0_node_2_12 ?_
    refine gx_bipush (v := (-6)) h dX0_node_2_16 (by decide) ?_
    refine gcc_X0_131 (r := some a0) (a0 := 1) (a1 := (-6)) h rfl ⟨Nat.le_refl _, Nat.le_refl _⟩ rfl k.1 (Nat.le_of_ble_eq_true rfl) dX0_node_2_18 (gx_C.mono k.2 ?_)
    rintro o σ18 (⟨rfl, k⟩ | ⟨a18, rfl, k⟩)
    · refine Or.inl ⟨rfl, ?_⟩
      refine gx_aload_nq (r := r2) h 0 rfl dX0_node_2_21 ?_
      exact gx_aret (r := r2) h rfl (Or.inl ⟨_, rfl⟩) dX0_node_2_22 (Or.inl ⟨_, rfl, k⟩)
    · refine Or.inr ⟨a18, rfl, ?_⟩
      exact gx_out h rfl (Or.inr ⟨_, rfl, k⟩)
/-! X0.taken -/
theorem ec_X0_taken {θ : gc_T} {P : Option Nat → gc_S → Prop} {σ : gc_S} {n c s : Nat} {a0 : Nat} (body : ∀ K, gc_K θ K (nX0_taken (n + 1) c s) → gc_G θ K (nX0_taken (n + 1) c s) (gc_Pr P) 0 [(0, va_rf (some a0))] [] σ c s) : gx_C (gc_O θ) (nX0_taken (n + 1) c s) [.ref a0] σ (gc_Pr P) :=
  gx_C.intro (gc_z_warm θ) rfl (Nat.le_of_ble_eq_true rfl) body
theorem bc_X0_taken_0 {θ : gc_T} {K : gx_K} {P : Option Nat → gc_S → Prop} {σ : gc_S} {a0 n c s bc bs : Nat} (h : gc_K θ K (nX0_taken (n + 1) c s)) (k : gc_is σ a0 0 ∧ gc_is σ a0 0 ∧ ∃ c9 s9 : Nat, (c9 ≤ bc ∧ s9 ≤ bs) ∧ gx_C (gc_O θ) (nX0_part n c9 s9) [va_rf (gc_R σ 4 a0), .int 0, .int (gc_I σ 5 a0)] σ (gc_Pr (fun r9 σ9 => gc_is σ9 a0 0 ∧ ∀ σ15, σ15 = gc_sI σ9 5 a0 0 → P r9 σ15))) : gc_G θ K (nX0_taken (n + 1) c s) (gc_Pr P) 0 [(0, va_rf (some a0))] [] σ bc bs := by
  refine gx_aload_nq (r := some a0) h 0 rfl dX0_taken_0 ?_
  refine gcg_X0_50 h rfl rfl k.1 dX0_taken_1 ?_
  replace k := k.2
  refine gx_iconst (v := 0) h dX0_taken_4 (by decide) ?_
  refine gx_aload_nq (r := some a0) h 0 rfl dX0_taken_5 ?_
  refine gcg_X0_135 h rfl rfl k.1 dX0_taken_6 ?_
  replace k := k.2
  obtain ⟨c9, s9, hb9, k⟩ := k
  refine gcc_X0_207 (a0 := gc_R σ 4 a0) (a1 := 0) (a2 := gc_I σ 5 a0) h rfl ⟨Nat.le_refl _, Nat.le_refl _⟩ hb9 (Nat.le_of_ble_eq_true rfl) dX0_taken_9 (gx_C.mono k ?_)
  rintro _ σ9 ⟨r9, rfl, k⟩
  refine ⟨r9, rfl, ?_⟩
  refine gx_astore_nq (r := r9) (L' := [(1, va_rf r9), (0, va_rf (some a0))]) h (Nat.le_of_ble_eq_true rfl) rfl dX0_taken_12 ?_
  refine gx_aload_nq (r := some a0) h 1 rfl dX0_taken_13 ?_
  refine gx_iconst (v := 0) h dX0_taken_14 (by decide) ?_
  refine gcp_X0_135 (v := 0) h rfl rfl k.1 dX0_taken_15 ?_
  generalize hz : gc_sI σ9 5 a0 0 = σ15
  replace k := k.2 σ15 hz.symm
  refine gx_aload_nq (r := r9) h 0 rfl dX0_taken_18 ?_
  exact gx_aret (r := r9) h rfl (Or.inr ⟨_, rfl⟩) dX0_taken_19 (⟨_, rfl, k⟩)
/-! X0.isLabel -/
theorem ec_X0_isLabel {θ : gc_T} {P : Int32 → gc_S → Prop} {σ : gc_S} {n : Nat} {x0 : Option Nat} (body : ∀ K, gc_K θ K (nX0_isLabel (n + 1)) → gc_G θ K (nX0_isLabel (n + 1)) (gc_Pi P) 0 [(0, va_rf x0)] [] σ 0 0) : gx_C (gc_O θ) (nX0_isLabel (n + 1)) [va_rf x0] σ (gc_Pi P) := by
  refine gx_C.intro (gc_z_warm θ) rfl (by cases x0 <;> exact Nat.le_of_ble_eq_true rfl) (fun K h => ?_)
  have k := body K h
  cases x0 <;> exact k
theorem bc_X0_isLabel_0 {θ : gc_T} {K : gx_K} {P : Int32 → gc_S → Prop} {σ : gc_S} {x0 : Option Nat} {n bc bs : Nat} (h : gc_K θ K (nX0_isLabel (n + 1))) (k : ∃ a1_1 : Nat, x0 = some a1_1 ∧ gc_isB θ σ a1_1 ∧ (((Int32.ofNat (gc_n σ a1_1)) ≤ 0 → gc_G θ K (nX0_isLabel (n + 1)) (gc_Pi P) 16 [(0, va_rf x0)] [] σ bc bs) ∧ (¬ (Int32.ofNat (gc_n σ a1_1)) ≤ 0 → gc_isB θ σ a1_1 ∧ ((6 < (Int32.ofNat (gc_n σ a1_1)) → gc_G θ K (nX0_isLabel (n + 1)) (gc_Pi P) 16 [(0, va_rf x0)] [] σ bc bs) ∧ (¬ 6 < (Int32.ofNat (gc_n σ a1_1)) → gc_G θ K (nX0_isLabel (n + 1)) (gc_Pi P) 17 [(0, va_rf x0)] [.int 1] σ bc bs))))) : gc_G θ K (nX0_isLabel (n + 1)) (gc_Pi P) 0 [(0, va_rf x0)] [] σ bc bs := by
  refine gx_aload_nq (r := x0) h 0 rfl dX0_isLabel_0 ?_
  obtain ⟨a1_1, e1_1, k⟩ := k
  refine gc_alen15E (r := x0) h e1_1 k.1 dX0_isLabel_1 ?_
  replace k := k.2
  refine gx_if_le (tgt := 16) h (by decide) dX0_isLabel_2 (fun c => ?_) (fun c => ?_)
  · replace k := k.1 c
    exact k
  · replace k := k.2 c
    refine gx_aload_nq (r := x0) h 0 rfl dX0_isLabel_5 ?_
    refine gc_alen15E (r := x0) h e1_1 k.1 dX0_isLabel_6 ?_
    replace k := k.2
    refine gx_bipush (v := 6) h dX0_isLabel_7 (by decide) ?_
    refine gx_icmp_gt (tgt := 16) h (by decide) dX0_isLabel_9 (fun c => ?_) (fun c => ?_)
    · replace k := k.1 c
      exact k
    · replace k := k.2 c
      refine gx_iconst (v := 1) h dX0_isLabel_12 (by decide) ?_
      refine gx_goto (tgt := 17) h (by decide) dX0_isLabel_13 ?_
      exact k
theorem bc_X0_isLabel_16 {θ : gc_T} {K : gx_K} {P : Int32 → gc_S → Prop} {σ : gc_S} {x0 : Option Nat} {n bc bs : Nat} (h : gc_K θ K (nX0_isLabel (n + 1))) (k : gc_G θ K (nX0_isLabel (n + 1)) (gc_Pi P) 17 [(0, va_rf x0)] [.int 0] σ bc bs) : gc_G θ K (nX0_isLabel (n + 1)) (gc_Pi P) 16 [(0, va_rf x0)] [] σ bc bs := by
  refine gx_iconst (v := 0) h dX0_isLabel_16 (by decide) ?_
  exact k
theorem bc_X0_isLabel_17 {θ : gc_T} {K : gx_K} {P : Int32 → gc_S → Prop} {σ : gc_S} {s0 : Int32} {x0 : Option Nat} {n bc bs : Nat} (h : gc_K θ K (nX0_isLabel (n + 1))) (k : gc_G θ K (nX0_isLabel (n + 1)) (gc_Pi P) 20 [(0, va_rf x0), (1, .int s0), (2, .int 0)] [] σ bc bs) : gc_G θ K (nX0_isLabel (n + 1)) (gc_Pi P) 17 [(0, va_rf x0)] [.int s0] σ bc bs := by
  refine gx_istore_n (L' := [(1, .int s0), (0, va_rf x0)]) h (Nat.le_of_ble_eq_true rfl) (by generalize x0 = z; cases z <;> rfl) dX0_isLabel_17 ?_
  refine gx_iconst (v := 0) h dX0_isLabel_18 (by decide) ?_
  refine gx_istore_n (L' := [(2, .int 0), (1, .int s0), (0, va_rf x0)]) h (Nat.le_of_ble_eq_true rfl) rfl dX0_isLabel_19 ?_
  exact gx_sub [2, 1, 0] rfl k
theorem bc_X0_isLabel_20 {θ : gc_T} {K : gx_K} {P : Int32 → gc_S → Prop} {σ : gc_S} {x1 x2 : Int32} {x0 : Option Nat} {n bc bs : Nat} (h : gc_K θ K (nX0_isLabel (n + 1))) (k : ∃ a22_1 : Nat, x0 = some a22_1 ∧ gc_isB θ σ a22_1 ∧ (((Int32.ofNat (gc_n σ a22_1)) ≤ x2 → narrow .boolean (.int x1) = .int x1 ∧ P x1 σ) ∧ (¬ (Int32.ofNat (gc_n σ a22_1)) ≤ x2 → ((x1 = 0 → gc_G θ K (nX0_isLabel (n + 1)) (gc_Pi P) 43 [(0, va_rf x0), (2, .int x2)] [] σ bc bs) ∧ (¬ x1 = 0 → gc_is σ a22_1 15 ∧ vp_in x2 (gc_n σ a22_1) ∧ gx_C (gc_O θ) (nX0_isLetter n) [.int (gc_E σ a22_1 x2.toNatClampNeg)] σ (gc_Pi (fun r33 σ33 => ((r33 = 0 → gc_G θ K (nX0_isLabel (n + 1)) (gc_Pi P) 43 [(0, va_rf x0), (2, .int x2)] [] σ33 bc bs) ∧ (¬ r33 = 0 → gc_G θ K (nX0_isLabel (n + 1)) (gc_Pi P) 20 [(0, va_rf x0), (1, .int 1), (2, .int (x2 + 1))] [] σ33 bc bs))))))))) : gc_G θ K (nX0_isLabel (n + 1)) (gc_Pi P) 20 [(0, va_rf x0), (1, .int x1), (2, .int x2)] [] σ bc bs := by
  refine gx_iload_n h 2 rfl dX0_isLabel_20 ?_
  refine gx_aload_nq (r := x0) h 0 rfl dX0_isLabel_21 ?_
  obtain ⟨a22_1, e22_1, k⟩ := k
  refine gc_alen15E (r := x0) h e22_1 k.1 dX0_isLabel_22 ?_
  replace k := k.2
  refine gx_icmp_ge (tgt := 51) h (by decide) dX0_isLabel_23 (fun c => ?_) (fun c => ?_)
  · replace k := k.1 c
    refine gx_iload_n h 1 rfl dX0_isLabel_51 ?_
    exact gx_zret h rfl k.1 dX0_isLabel_52 (⟨_, rfl, k.2⟩)
  · replace k := k.2 c
    refine gx_iload_n h 1 rfl dX0_isLabel_26 ?_
    refine gx_if_eq (tgt := 43) h (by decide) dX0_isLabel_27 (fun c => ?_) (fun c => ?_)
    · replace k := k.1 c
      exact gx_sub [0, 2] rfl k
    · replace k := k.2 c
      refine gx_aload_nq (r := x0) h 0 rfl dX0_isLabel_30 ?_
      refine gx_iload_n h 2 rfl dX0_isLabel_31 ?_
      refine gc_baldE (r := x0) h e22_1 k.1 k.2.1 dX0_isLabel_32 ?_
      replace k := k.2.2
      refine gcc_X0_16 (a0 := gc_E σ a22_1 x2.toNatClampNeg) h rfl ⟨Nat.le_refl _, Nat.le_refl _⟩ (Nat.le_of_ble_eq_true rfl) dX0_isLabel_33 (gx_C.mono k ?_)
      rintro _ σ33 ⟨r33, rfl, k⟩
      refine ⟨r33, rfl, ?_⟩
      refine gx_if_eq (tgt := 43) h (by decide) dX0_isLabel_36 (fun c => ?_) (fun c => ?_)
      · replace k := k.1 c
        exact gx_sub [0, 2] rfl k
      · replace k := k.2 c
        refine gx_iconst (v := 1) h dX0_isLabel_39 (by decide) ?_
        refine gx_goto (tgt := 44) h (by decide) dX0_isLabel_40 ?_
        refine gx_istore_n (L' := [(1, .int 1), (0, va_rf x0), (2, .int x2)]) h (Nat.le_of_ble_eq_true rfl) (by generalize x0 = z; cases z <;> rfl) dX0_isLabel_44 ?_
        refine gx_iinc (v := x2 + 1) (L' := [(2, .int (x2 + 1)), (1, .int 1), (0, va_rf x0)]) h 2 rfl rfl (Nat.le_of_ble_eq_true rfl) rfl dX0_isLabel_45 ?_
        refine gx_goto (tgt := 20) h (by decide) dX0_isLabel_48 ?_
        exact gx_sub [2, 1, 0] rfl k
theorem bc_X0_isLabel_43 {θ : gc_T} {K : gx_K} {P : Int32 → gc_S → Prop} {σ : gc_S} {x2 : Int32} {x0 : Option Nat} {n bc bs : Nat} (h : gc_K θ K (nX0_isLabel (n + 1))) (k : gc_G θ K (nX0_isLabel (n + 1)) (gc_Pi P) 20 [(0, va_rf x0), (1, .int 0), (2, .int (x2 + 1))] [] σ bc bs) : gc_G θ K (nX0_isLabel (n + 1)) (gc_Pi P) 43 [(0, va_rf x0), (2, .int x2)] [] σ bc bs := by
  refine gx_iconst (v := 0) h dX0_isLabel_43 (by decide) ?_
  refine gx_istore_n (L' := [(1, .int 0), (0, va_rf x0), (2, .int x2)]) h (Nat.le_of_ble_eq_true rfl) (by generalize x0 = z; cases z <;> rfl) dX0_isLabel_44 ?_
  refine gx_iinc (v := x2 + 1) (L' := [(2, .int (x2 + 1)), (1, .int 0), (0, va_rf x0)]) h 2 rfl rfl (Nat.le_of_ble_eq_true rfl) rfl dX0_isLabel_45 ?_
  refine gx_goto (tgt := 20) h (by decide) dX0_isLabel_48 ?_
  exact gx_sub [2, 1, 0] rfl k
/-! X0.retext -/
theorem ec_X0_retext {θ : gc_T} {P : Int32 → gc_S → Prop} {σ : gc_S} {n c s : Nat} {a0 : Nat} {x1 : Int32} {x2 : Int32} (body : ∀ K, gc_K θ K (nX0_retext (n + 1) c s) → gc_G θ K (nX0_retext (n + 1) c s) (gc_Pi P) 0 [(0, va_rf (some a0)), (1, .int x1), (2, .int x2)] [] σ c s) : gx_C (gc_O θ) (nX0_retext (n + 1) c s) [.ref a0, .int x1, .int x2] σ (gc_Pi P) :=
  gx_C.intro (gc_z_warm θ) rfl (Nat.le_of_ble_eq_true rfl) body
theorem bc_X0_retext_0 {θ : gc_T} {K : gx_K} {P : Int32 → gc_S → Prop} {σ : gc_S} {x1 x2 : Int32} {a0 n c s bc bs : Nat} (h : gc_K θ K (nX0_retext (n + 1) c s)) (k : ∃ c2 s2 : Nat, (c2 ≤ bc ∧ s2 ≤ bs) ∧ gc_is σ a0 0 ∧ gx_C (gc_O θ) (nX0_tree n c2 s2) (.ref a0 :: [.int x1]) σ (gc_Qr (fun r2 σ2 => gc_is σ2 a0 0 ∧ gx_C (gc_O θ) (nX0_node_2 n) (.ref a0 :: [va_rf r2, .int x2]) σ2 (gc_Qr (fun r9 σ9 => ∃ c15 s15 : Nat, (c15 ≤ (bc - c2) ∧ s15 ≤ (bs - s2)) ∧ gc_is σ9 a0 0 ∧ gx_C (gc_O θ) (nX0_taken n c15 s15) (.ref a0 :: []) σ9 (gc_Pr (fun r15 σ15 => gx_C (gc_O θ) (nX0_isText n) [va_rf r15] σ15 (gc_Pi (fun r23 σ23 => gc_is σ23 a0 0 ∧ gx_C (gc_O θ) (nX0_need n) (.ref a0 :: [.int r23, .int (-3)]) σ23 (gc_Qv (fun σ28 => ∃ a35_1 : Nat, r9 = some a35_1 ∧ gc_isN σ28 a35_1 ∧ ∀ σ35, σ35 = gc_sR σ28 802 a35_1 r15 → ∃ a40_2 : Nat, r15 = some a40_2 ∧ gc_isB θ σ35 a40_2 ∧ P (Int32.ofNat (gc_n σ35 a40_2)) σ35) (fun a28 σ28 => gc_is σ28 a28 1 ∧ gc_G θ K (nX0_retext (n + 1) c s) (gc_Pi P) 42 [(0, va_rf (some a0))] [va_rf (some a28)] σ28 ((bc - c2) - c15) ((bs - s2) - s15)))))))) (fun a9 σ9 => gc_is σ9 a9 1 ∧ gc_G θ K (nX0_retext (n + 1) c s) (gc_Pi P) 42 [(0, va_rf (some a0))] [va_rf (some a9)] σ9 (bc - c2) (bs - s2)))) (fun a2 σ2 => gc_is σ2 a2 1 ∧ gc_G θ K (nX0_retext (n + 1) c s) (gc_Pi P) 42 [(0, va_rf (some a0))] [va_rf (some a2)] σ2 (bc - c2) (bs - s2)))) : gc_G θ K (nX0_retext (n + 1) c s) (gc_Pi P) 0 [(0, va_rf (some a0)), (1, .int x1), (2, .int x2)] [] σ bc bs := by
  refine gx_aload_nq (r := some a0) h 0 rfl dX0_retext_0 ?_
  refine gx_iload_n h 1 rfl dX0_retext_1 ?_
  obtain ⟨c2, s2, hb2, k⟩ := k
  refine gcc_X0_162 (r := some a0) (a0 := x1) h rfl ⟨Nat.le_refl _, Nat.le_refl _⟩ hb2 rfl k.1 (Nat.le_of_ble_eq_true rfl) dX0_retext_2 (gx_C.mono k.2 ?_)
  rintro o σ2 (⟨r2, rfl, k⟩ | ⟨a2, rfl, k⟩)
  · refine Or.inl ⟨r2, rfl, ?_⟩
    refine gx_astore_nq (r := r2) (L' := [(3, va_rf r2), (0, va_rf (some a0)), (1, .int x1), (2, .int x2)]) h (Nat.le_of_ble_eq_true rfl) rfl dX0_retext_5 ?_
    refine gx_aload_nq (r := some a0) h 1 rfl dX0_retext_6 ?_
    refine gx_aload_nq (r := r2) h 0 rfl dX0_retext_7 ?_
    refine gx_iload_n h 3 rfl dX0_retext_8 ?_
    refine gcc_X0_214 (r := some a0) (a0 := r2) (a1 := x2) h rfl ⟨Nat.le_refl _, Nat.le_refl _⟩ rfl k.1 (Nat.le_of_ble_eq_true rfl) dX0_retext_9 (gx_C.mono k.2 ?_)
    rintro o σ9 (⟨r9, rfl, k⟩ | ⟨a9, rfl, k⟩)
    · refine Or.inl ⟨r9, rfl, ?_⟩
      refine gx_astoreq (r := r9) (L' := [(4, va_rf r9), (3, va_rf r2), (0, va_rf (some a0)), (1, .int x1), (2, .int x2)]) h (Nat.le_of_ble_eq_true rfl) (by generalize r2 = z; cases z <;> rfl) dX0_retext_12 ?_
      refine gx_aload_nq (r := some a0) h 2 rfl dX0_retext_14 ?_
      obtain ⟨c15, s15, hb15, k⟩ := k
      refine gcc_X0_217 (r := some a0)  h rfl ⟨Nat.le_refl _, Nat.le_refl _⟩ hb15 rfl k.1 (Nat.le_of_ble_eq_true rfl) dX0_retext_15 (gx_C.mono k.2 ?_)
      rintro _ σ15 ⟨r15, rfl, k⟩
      refine ⟨r15, rfl, ?_⟩
      refine gx_astoreq (r := r15) (L' := [(5, va_rf r15), (4, va_rf r9), (3, va_rf r2), (0, va_rf (some a0)), (1, .int x1), (2, .int x2)]) h (Nat.le_of_ble_eq_true rfl) (by generalize r9 = z; cases z <;> rfl) dX0_retext_18 ?_
      refine gx_aload_nq (r := some a0) h 3 rfl dX0_retext_20 ?_
      refine gx_aloadq (r := r15) h 0 rfl dX0_retext_21 ?_
      refine gcc_X0_229 (a0 := r15) h rfl ⟨Nat.le_refl _, Nat.le_refl _⟩ (Nat.le_of_ble_eq_true rfl) dX0_retext_23 (gx_C.mono k ?_)
      rintro _ σ23 ⟨r23, rfl, k⟩
      refine ⟨r23, rfl, ?_⟩
      refine gx_bipush (v := (-3)) h dX0_retext_26 (by decide) ?_
      refine gcc_X0_131 (r := some a0) (a0 := r23) (a1 := (-3)) h rfl ⟨Nat.le_refl _, Nat.le_refl _⟩ rfl k.1 (Nat.le_of_ble_eq_true rfl) dX0_retext_28 (gx_C.mono k.2 ?_)
      rintro o σ28 (⟨rfl, k⟩ | ⟨a28, rfl, k⟩)
      · refine Or.inl ⟨rfl, ?_⟩
        refine gx_aloadq (r := r9) h 1 rfl dX0_retext_31 ?_
        refine gx_aloadq (r := r15) h 0 rfl dX0_retext_33 ?_
        obtain ⟨a35_1, e35_1, k⟩ := k
        refine gcp_X0_204 (v := r15) h rfl e35_1 k.1 dX0_retext_35 ?_
        generalize hz : gc_sR σ28 802 a35_1 r15 = σ35
        replace k := k.2 σ35 hz.symm
        refine gx_aloadq (r := r15) h 0 rfl dX0_retext_38 ?_
        obtain ⟨a40_2, e40_2, k⟩ := k
        refine gc_alen15E (r := r15) h e40_2 k.1 dX0_retext_40 ?_
        replace k := k.2
        exact gx_iret h rfl dX0_retext_41 (⟨_, rfl, k⟩)
      · refine Or.inr ⟨a28, rfl, ?_⟩
        refine gc_catchF h rfl q107 q109 [] ⟨0, 41, 42, 33⟩ [] rfl rfl rfl rfl k.1 ?_
        replace k := k.2
        exact gx_sub [3] rfl k
    · refine Or.inr ⟨a9, rfl, ?_⟩
      refine gc_catchF h rfl q107 q109 [] ⟨0, 41, 42, 33⟩ [] rfl rfl rfl rfl k.1 ?_
      replace k := k.2
      exact gx_sub [1] rfl k
  · refine Or.inr ⟨a2, rfl, ?_⟩
    refine gc_catchF h rfl q107 q109 [] ⟨0, 41, 42, 33⟩ [] rfl rfl rfl rfl k.1 ?_
    replace k := k.2
    exact gx_sub [0] rfl k
theorem bc_X0_retext_42 {θ : gc_T} {K : gx_K} {P : Int32 → gc_S → Prop} {σ : gc_S} {a0 s0 n c s bc bs : Nat} (h : gc_K θ K (nX0_retext (n + 1) c s)) (k : gc_is σ a0 0 ∧ gx_C (gc_O θ) (nX0_finds n) (.ref a0 :: [va_rf (some s0)]) σ (gc_Pi (fun r45 σ45 => P r45 σ45))) : gc_G θ K (nX0_retext (n + 1) c s) (gc_Pi P) 42 [(0, va_rf (some a0))] [va_rf (some s0)] σ bc bs := by
  refine gx_astore_nq (r := some s0) (L' := [(3, va_rf (some s0)), (0, va_rf (some a0))]) h (Nat.le_of_ble_eq_true rfl) rfl dX0_retext_42 ?_
  refine gx_aload_nq (r := some a0) h 1 rfl dX0_retext_43 ?_
  refine gx_aload_nq (r := some s0) h 0 rfl dX0_retext_44 ?_
  refine gcc_X0_138 (r := some a0) (a0 := some s0) h rfl ⟨Nat.le_refl _, Nat.le_refl _⟩ rfl k.1 (Nat.le_of_ble_eq_true rfl) dX0_retext_45 (gx_C.mono k.2 ?_)
  rintro _ σ45 ⟨r45, rfl, k⟩
  refine ⟨r45, rfl, ?_⟩
  exact gx_iret h rfl dX0_retext_48 (⟨_, rfl, k⟩)
/-! X0.isText -/
theorem ec_X0_isText {θ : gc_T} {P : Int32 → gc_S → Prop} {σ : gc_S} {n : Nat} {x0 : Option Nat} (body : ∀ K, gc_K θ K (nX0_isText (n + 1)) → gc_G θ K (nX0_isText (n + 1)) (gc_Pi P) 0 [(0, va_rf x0)] [] σ 0 0) : gx_C (gc_O θ) (nX0_isText (n + 1)) [va_rf x0] σ (gc_Pi P) := by
  refine gx_C.intro (gc_z_warm θ) rfl (by cases x0 <;> exact Nat.le_of_ble_eq_true rfl) (fun K h => ?_)
  have k := body K h
  cases x0 <;> exact k
theorem bc_X0_isText_0 {θ : gc_T} {K : gx_K} {P : Int32 → gc_S → Prop} {σ : gc_S} {x0 : Option Nat} {n bc bs : Nat} (h : gc_K θ K (nX0_isText (n + 1))) (k : ∃ a1_1 : Nat, x0 = some a1_1 ∧ gc_isB θ σ a1_1 ∧ ((8 < (Int32.ofNat (gc_n σ a1_1)) → gc_G θ K (nX0_isText (n + 1)) (gc_Pi P) 12 [(0, va_rf x0)] [.int 0] σ bc bs) ∧ (¬ 8 < (Int32.ofNat (gc_n σ a1_1)) → gc_G θ K (nX0_isText (n + 1)) (gc_Pi P) 12 [(0, va_rf x0)] [.int 1] σ bc bs))) : gc_G θ K (nX0_isText (n + 1)) (gc_Pi P) 0 [(0, va_rf x0)] [] σ bc bs := by
  refine gx_aload_nq (r := x0) h 0 rfl dX0_isText_0 ?_
  obtain ⟨a1_1, e1_1, k⟩ := k
  refine gc_alen15E (r := x0) h e1_1 k.1 dX0_isText_1 ?_
  replace k := k.2
  refine gx_bipush (v := 8) h dX0_isText_2 (by decide) ?_
  refine gx_icmp_gt (tgt := 11) h (by decide) dX0_isText_4 (fun c => ?_) (fun c => ?_)
  · replace k := k.1 c
    refine gx_iconst (v := 0) h dX0_isText_11 (by decide) ?_
    exact k
  · replace k := k.2 c
    refine gx_iconst (v := 1) h dX0_isText_7 (by decide) ?_
    refine gx_goto (tgt := 12) h (by decide) dX0_isText_8 ?_
    exact k
theorem bc_X0_isText_12 {θ : gc_T} {K : gx_K} {P : Int32 → gc_S → Prop} {σ : gc_S} {s0 : Int32} {x0 : Option Nat} {n bc bs : Nat} (h : gc_K θ K (nX0_isText (n + 1))) (k : gc_G θ K (nX0_isText (n + 1)) (gc_Pi P) 15 [(0, va_rf x0), (1, .int s0), (2, .int 0)] [] σ bc bs) : gc_G θ K (nX0_isText (n + 1)) (gc_Pi P) 12 [(0, va_rf x0)] [.int s0] σ bc bs := by
  refine gx_istore_n (L' := [(1, .int s0), (0, va_rf x0)]) h (Nat.le_of_ble_eq_true rfl) (by generalize x0 = z; cases z <;> rfl) dX0_isText_12 ?_
  refine gx_iconst (v := 0) h dX0_isText_13 (by decide) ?_
  refine gx_istore_n (L' := [(2, .int 0), (1, .int s0), (0, va_rf x0)]) h (Nat.le_of_ble_eq_true rfl) rfl dX0_isText_14 ?_
  exact gx_sub [2, 1, 0] rfl k
theorem bc_X0_isText_15 {θ : gc_T} {K : gx_K} {P : Int32 → gc_S → Prop} {σ : gc_S} {x1 x2 : Int32} {x0 : Option Nat} {n bc bs : Nat} (h : gc_K θ K (nX0_isText (n + 1))) (k : ∃ a17_1 : Nat, x0 = some a17_1 ∧ gc_isB θ σ a17_1 ∧ (((Int32.ofNat (gc_n σ a17_1)) ≤ x2 → narrow .boolean (.int x1) = .int x1 ∧ P x1 σ) ∧ (¬ (Int32.ofNat (gc_n σ a17_1)) ≤ x2 → ((x1 = 0 → gc_G θ K (nX0_isText (n + 1)) (gc_Pi P) 38 [(0, va_rf x0), (2, .int x2)] [] σ bc bs) ∧ (¬ x1 = 0 → gc_is σ a17_1 15 ∧ vp_in x2 (gc_n σ a17_1) ∧ gx_C (gc_O θ) (nX0_isSign n) [.int (gc_E σ a17_1 x2.toNatClampNeg)] σ (gc_Pi (fun r28 σ28 => ((r28 = 0 → gc_G θ K (nX0_isText (n + 1)) (gc_Pi P) 38 [(0, va_rf x0), (2, .int x2)] [] σ28 bc bs) ∧ (¬ r28 = 0 → gc_G θ K (nX0_isText (n + 1)) (gc_Pi P) 15 [(0, va_rf x0), (1, .int 1), (2, .int (x2 + 1))] [] σ28 bc bs))))))))) : gc_G θ K (nX0_isText (n + 1)) (gc_Pi P) 15 [(0, va_rf x0), (1, .int x1), (2, .int x2)] [] σ bc bs := by
  refine gx_iload_n h 2 rfl dX0_isText_15 ?_
  refine gx_aload_nq (r := x0) h 0 rfl dX0_isText_16 ?_
  obtain ⟨a17_1, e17_1, k⟩ := k
  refine gc_alen15E (r := x0) h e17_1 k.1 dX0_isText_17 ?_
  replace k := k.2
  refine gx_icmp_ge (tgt := 46) h (by decide) dX0_isText_18 (fun c => ?_) (fun c => ?_)
  · replace k := k.1 c
    refine gx_iload_n h 1 rfl dX0_isText_46 ?_
    exact gx_zret h rfl k.1 dX0_isText_47 (⟨_, rfl, k.2⟩)
  · replace k := k.2 c
    refine gx_iload_n h 1 rfl dX0_isText_21 ?_
    refine gx_if_eq (tgt := 38) h (by decide) dX0_isText_22 (fun c => ?_) (fun c => ?_)
    · replace k := k.1 c
      exact gx_sub [0, 2] rfl k
    · replace k := k.2 c
      refine gx_aload_nq (r := x0) h 0 rfl dX0_isText_25 ?_
      refine gx_iload_n h 2 rfl dX0_isText_26 ?_
      refine gc_baldE (r := x0) h e17_1 k.1 k.2.1 dX0_isText_27 ?_
      replace k := k.2.2
      refine gcc_X0_211 (a0 := gc_E σ a17_1 x2.toNatClampNeg) h rfl ⟨Nat.le_refl _, Nat.le_refl _⟩ (Nat.le_of_ble_eq_true rfl) dX0_isText_28 (gx_C.mono k ?_)
      rintro _ σ28 ⟨r28, rfl, k⟩
      refine ⟨r28, rfl, ?_⟩
      refine gx_if_eq (tgt := 38) h (by decide) dX0_isText_31 (fun c => ?_) (fun c => ?_)
      · replace k := k.1 c
        exact gx_sub [0, 2] rfl k
      · replace k := k.2 c
        refine gx_iconst (v := 1) h dX0_isText_34 (by decide) ?_
        refine gx_goto (tgt := 39) h (by decide) dX0_isText_35 ?_
        refine gx_istore_n (L' := [(1, .int 1), (0, va_rf x0), (2, .int x2)]) h (Nat.le_of_ble_eq_true rfl) (by generalize x0 = z; cases z <;> rfl) dX0_isText_39 ?_
        refine gx_iinc (v := x2 + 1) (L' := [(2, .int (x2 + 1)), (1, .int 1), (0, va_rf x0)]) h 2 rfl rfl (Nat.le_of_ble_eq_true rfl) rfl dX0_isText_40 ?_
        refine gx_goto (tgt := 15) h (by decide) dX0_isText_43 ?_
        exact gx_sub [2, 1, 0] rfl k
theorem bc_X0_isText_38 {θ : gc_T} {K : gx_K} {P : Int32 → gc_S → Prop} {σ : gc_S} {x2 : Int32} {x0 : Option Nat} {n bc bs : Nat} (h : gc_K θ K (nX0_isText (n + 1))) (k : gc_G θ K (nX0_isText (n + 1)) (gc_Pi P) 15 [(0, va_rf x0), (1, .int 0), (2, .int (x2 + 1))] [] σ bc bs) : gc_G θ K (nX0_isText (n + 1)) (gc_Pi P) 38 [(0, va_rf x0), (2, .int x2)] [] σ bc bs := by
  refine gx_iconst (v := 0) h dX0_isText_38 (by decide) ?_
  refine gx_istore_n (L' := [(1, .int 0), (0, va_rf x0), (2, .int x2)]) h (Nat.le_of_ble_eq_true rfl) (by generalize x0 = z; cases z <;> rfl) dX0_isText_39 ?_
  refine gx_iinc (v := x2 + 1) (L' := [(2, .int (x2 + 1)), (1, .int 0), (0, va_rf x0)]) h 2 rfl rfl (Nat.le_of_ble_eq_true rfl) rfl dX0_isText_40 ?_
  refine gx_goto (tgt := 15) h (by decide) dX0_isText_43 ?_
  exact gx_sub [2, 1, 0] rfl k
/-! X0.put -/
theorem ec_X0_put {θ : gc_T} {P : Int32 → gc_S → Prop} {σ : gc_S} {n c s : Nat} {a0 : Nat} {x1 : Int32} {x2 : Int32} {x3 : Int32} {x4 : Int32} {x5 : Int32} (body : ∀ K, gc_K θ K (nX0_put (n + 1) c s) → gc_G θ K (nX0_put (n + 1) c s) (gc_Pi P) 0 [(0, va_rf (some a0)), (1, .int x1), (2, .int x2), (3, .int x3), (4, .int x4), (5, .int x5)] [] σ c s) : gx_C (gc_O θ) (nX0_put (n + 1) c s) [.ref a0, .int x1, .int x2, .int x3, .int x4, .int x5] σ (gc_Pi P) :=
  gx_C.intro (gc_z_warm θ) rfl (Nat.le_of_ble_eq_true rfl) body
theorem bc_X0_put_0 {θ : gc_T} {K : gx_K} {P : Int32 → gc_S → Prop} {σ : gc_S} {x1 x2 x3 x4 x5 : Int32} {a0 n c s bc bs : Nat} (h : gc_K θ K (nX0_put (n + 1) c s)) (k : ∃ c2 s2 : Nat, (c2 ≤ bc ∧ s2 ≤ bs) ∧ gc_is σ a0 0 ∧ gx_C (gc_O θ) (nX0_tree n c2 s2) (.ref a0 :: [.int x1]) σ (gc_Qr (fun r2 σ2 => gc_is σ2 a0 0 ∧ gx_C (gc_O θ) (nX0_node_2 n) (.ref a0 :: [va_rf r2, .int x2]) σ2 (gc_Qr (fun r11 σ11 => ∃ a14_1 : Nat, r11 = some a14_1 ∧ gc_isN σ11 a14_1 ∧ vC_bears θ n σ11 a14_1 [] (gc_Pi (fun r14 σ14 => ∃ c20 s20 : Nat, (c20 ≤ (bc - c2) ∧ s20 ≤ (bs - s2)) ∧ gc_is σ14 a0 0 ∧ gx_C (gc_O θ) (nX0_taken n c20 s20) (.ref a0 :: []) σ14 (gc_Pr (fun r20 σ20 => ((x3 < 0 → gc_G θ K (nX0_put (n + 1) c s) (gc_Pi P) 52 [(0, va_rf (some a0)), (1, .int x1), (2, .int x2), (3, .int x3), (4, .int x4), (5, .int x5), (6, va_rf r2), (8, va_rf r20)] [va_rf (some a0)] σ20 ((bc - c2) - c20) ((bs - s2) - s20)) ∧ (¬ x3 < 0 → ((2 < x3 → gc_G θ K (nX0_put (n + 1) c s) (gc_Pi P) 52 [(0, va_rf (some a0)), (1, .int x1), (2, .int x2), (3, .int x3), (4, .int x4), (5, .int x5), (6, va_rf r2), (8, va_rf r20)] [va_rf (some a0)] σ20 ((bc - c2) - c20) ((bs - s2) - s20)) ∧ (¬ 2 < x3 → ((r14 = 0 → gc_G θ K (nX0_put (n + 1) c s) (gc_Pi P) 52 [(0, va_rf (some a0)), (1, .int x1), (2, .int x2), (3, .int x3), (4, .int x4), (5, .int x5), (6, va_rf r2), (8, va_rf r20)] [va_rf (some a0)] σ20 ((bc - c2) - c20) ((bs - s2) - s20)) ∧ (¬ r14 = 0 → gx_C (gc_O θ) (nX0_isLabel n) [va_rf r20] σ20 (gc_Pi (fun r42 σ42 => ((r42 = 0 → gc_G θ K (nX0_put (n + 1) c s) (gc_Pi P) 52 [(0, va_rf (some a0)), (1, .int x1), (2, .int x2), (3, .int x3), (4, .int x4), (5, .int x5), (6, va_rf r2), (8, va_rf r20)] [va_rf (some a0)] σ42 ((bc - c2) - c20) ((bs - s2) - s20)) ∧ (¬ r42 = 0 → gc_G θ K (nX0_put (n + 1) c s) (gc_Pi P) 53 [(0, va_rf (some a0)), (1, .int x1), (2, .int x2), (3, .int x3), (4, .int x4), (5, .int x5), (6, va_rf r2), (8, va_rf r20)] [.int 1, va_rf (some a0)] σ42 ((bc - c2) - c20) ((bs - s2) - s20)))))))))))))))) (fun a11 σ11 => gc_is σ11 a11 1 ∧ gc_G θ K (nX0_put (n + 1) c s) (gc_Pi P) 230 [(0, va_rf (some a0))] [va_rf (some a11)] σ11 (bc - c2) (bs - s2)))) (fun a2 σ2 => gc_is σ2 a2 1 ∧ gc_G θ K (nX0_put (n + 1) c s) (gc_Pi P) 230 [(0, va_rf (some a0))] [va_rf (some a2)] σ2 (bc - c2) (bs - s2)))) : gc_G θ K (nX0_put (n + 1) c s) (gc_Pi P) 0 [(0, va_rf (some a0)), (1, .int x1), (2, .int x2), (3, .int x3), (4, .int x4), (5, .int x5)] [] σ bc bs := by
  refine gx_aload_nq (r := some a0) h 0 rfl dX0_put_0 ?_
  refine gx_iload_n h 1 rfl dX0_put_1 ?_
  obtain ⟨c2, s2, hb2, k⟩ := k
  refine gcc_X0_162 (r := some a0) (a0 := x1) h rfl ⟨Nat.le_refl _, Nat.le_refl _⟩ hb2 rfl k.1 (Nat.le_of_ble_eq_true rfl) dX0_put_2 (gx_C.mono k.2 ?_)
  rintro o σ2 (⟨r2, rfl, k⟩ | ⟨a2, rfl, k⟩)
  · refine Or.inl ⟨r2, rfl, ?_⟩
    refine gx_astoreq (r := r2) (L' := [(6, va_rf r2), (0, va_rf (some a0)), (1, .int x1), (2, .int x2), (3, .int x3), (4, .int x4), (5, .int x5)]) h (Nat.le_of_ble_eq_true rfl) rfl dX0_put_5 ?_
    refine gx_aload_nq (r := some a0) h 1 rfl dX0_put_7 ?_
    refine gx_aloadq (r := r2) h 0 rfl dX0_put_8 ?_
    refine gx_iload_n h 3 rfl dX0_put_10 ?_
    refine gcc_X0_214 (r := some a0) (a0 := r2) (a1 := x2) h rfl ⟨Nat.le_refl _, Nat.le_refl _⟩ rfl k.1 (Nat.le_of_ble_eq_true rfl) dX0_put_11 (gx_C.mono k.2 ?_)
    rintro o σ11 (⟨r11, rfl, k⟩ | ⟨a11, rfl, k⟩)
    · refine Or.inl ⟨r11, rfl, ?_⟩
      obtain ⟨a14_1, e14_1, k⟩ := k
      refine gcc_X0_232 (r := r11)  h rfl ⟨Nat.le_refl _, Nat.le_refl _⟩ e14_1 k.1 (Nat.le_of_ble_eq_true rfl) dX0_put_14 (vC_bears_mono k.2 ?_)
      rintro _ σ14 ⟨r14, rfl, k⟩
      refine ⟨r14, rfl, ?_⟩
      refine gx_istore (L' := [(7, .int r14), (6, va_rf r2), (0, va_rf (some a0)), (1, .int x1), (2, .int x2), (3, .int x3), (4, .int x4), (5, .int x5)]) h (Nat.le_of_ble_eq_true rfl) (by generalize r2 = z; cases z <;> rfl) dX0_put_17 ?_
      refine gx_aload_nq (r := some a0) h 2 rfl dX0_put_19 ?_
      obtain ⟨c20, s20, hb20, k⟩ := k
      refine gcc_X0_217 (r := some a0)  h rfl ⟨Nat.le_refl _, Nat.le_refl _⟩ hb20 rfl k.1 (Nat.le_of_ble_eq_true rfl) dX0_put_20 (gx_C.mono k.2 ?_)
      rintro _ σ20 ⟨r20, rfl, k⟩
      refine ⟨r20, rfl, ?_⟩
      refine gx_astoreq (r := r20) (L' := [(8, va_rf r20), (7, .int r14), (6, va_rf r2), (0, va_rf (some a0)), (1, .int x1), (2, .int x2), (3, .int x3), (4, .int x4), (5, .int x5)]) h (Nat.le_of_ble_eq_true rfl) rfl dX0_put_23 ?_
      refine gx_aload_nq (r := some a0) h 3 rfl dX0_put_25 ?_
      refine gx_iload_n h 6 rfl dX0_put_26 ?_
      refine gx_if_lt (tgt := 52) h (by decide) dX0_put_27 (fun c => ?_) (fun c => ?_)
      · replace k := k.1 c
        exact gx_sub [3, 4, 5, 6, 7, 8, 2, 0] rfl k
      · replace k := k.2 c
        refine gx_iload_n h 6 rfl dX0_put_30 ?_
        refine gx_iconst (v := 2) h dX0_put_31 (by decide) ?_
        refine gx_icmp_gt (tgt := 52) h (by decide) dX0_put_32 (fun c => ?_) (fun c => ?_)
        · replace k := k.1 c
          exact gx_sub [3, 4, 5, 6, 7, 8, 2, 0] rfl k
        · replace k := k.2 c
          refine gx_iload h 1 rfl dX0_put_35 ?_
          refine gx_if_eq (tgt := 52) h (by decide) dX0_put_37 (fun c => ?_) (fun c => ?_)
          · replace k := k.1 c
            exact gx_sub [3, 4, 5, 6, 7, 8, 2, 0] rfl k
          · replace k := k.2 c
            refine gx_aloadq (r := r20) h 0 rfl dX0_put_40 ?_
            refine gcc_X0_221 (a0 := r20) h rfl ⟨Nat.le_refl _, Nat.le_refl _⟩ (Nat.le_of_ble_eq_true rfl) dX0_put_42 (gx_C.mono k ?_)
            rintro _ σ42 ⟨r42, rfl, k⟩
            refine ⟨r42, rfl, ?_⟩
            refine gx_if_eq (tgt := 52) h (by decide) dX0_put_45 (fun c => ?_) (fun c => ?_)
            · replace k := k.1 c
              exact gx_sub [3, 4, 5, 6, 7, 8, 2, 0] rfl k
            · replace k := k.2 c
              refine gx_iconst (v := 1) h dX0_put_48 (by decide) ?_
              refine gx_goto (tgt := 53) h (by decide) dX0_put_49 ?_
              exact gx_sub [3, 4, 5, 6, 7, 8, 2, 0] rfl k
    · refine Or.inr ⟨a11, rfl, ?_⟩
      refine gc_catchF h rfl q107 q109 [] ⟨0, 229, 230, 33⟩ [] rfl rfl rfl rfl k.1 ?_
      replace k := k.2
      exact gx_sub [1] rfl k
  · refine Or.inr ⟨a2, rfl, ?_⟩
    refine gc_catchF h rfl q107 q109 [] ⟨0, 229, 230, 33⟩ [] rfl rfl rfl rfl k.1 ?_
    replace k := k.2
    exact gx_sub [0] rfl k
theorem bc_X0_put_52 {θ : gc_T} {K : gx_K} {P : Int32 → gc_S → Prop} {σ : gc_S} {x1 x2 x3 x4 x5 : Int32} {x6 x8 s0 : Option Nat} {a0 n c s bc bs : Nat} (h : gc_K θ K (nX0_put (n + 1) c s)) (k : gc_G θ K (nX0_put (n + 1) c s) (gc_Pi P) 53 [(0, va_rf (some a0)), (1, .int x1), (2, .int x2), (3, .int x3), (4, .int x4), (5, .int x5), (6, va_rf x6), (8, va_rf x8)] [.int 0, va_rf s0] σ bc bs) : gc_G θ K (nX0_put (n + 1) c s) (gc_Pi P) 52 [(0, va_rf (some a0)), (1, .int x1), (2, .int x2), (3, .int x3), (4, .int x4), (5, .int x5), (6, va_rf x6), (8, va_rf x8)] [va_rf s0] σ bc bs := by
  refine gx_iconst (v := 0) h dX0_put_52 (by decide) ?_
  exact k
theorem bc_X0_put_53 {θ : gc_T} {K : gx_K} {P : Int32 → gc_S → Prop} {σ : gc_S} {x1 x2 x3 x4 x5 s0 : Int32} {x6 x8 s1 : Option Nat} {a0 n c s bc bs : Nat} (h : gc_K θ K (nX0_put (n + 1) c s)) (k : ∃ a55_1 : Nat, s1 = some a55_1 ∧ gc_is σ a55_1 0 ∧ gx_C (gc_O θ) (nX0_need n) (.ref a55_1 :: [.int s0, .int (-3)]) σ (gc_Qv (fun σ55 => ∃ a60_2 : Nat, x6 = some a60_2 ∧ ∃ c60 s60 : Nat, (c60 ≤ bc ∧ s60 ≤ bs) ∧ gc_is σ55 a60_2 7 ∧ gx_C (gc_O θ) (nX8_copy n c60 s60) (.ref a60_2 :: []) σ55 (gc_Pr (fun r60 σ60 => ∃ a68_3 : Nat, r60 = some a68_3 ∧ gc_is σ60 a68_3 7 ∧ gx_C (gc_O θ) (nX8_find n) (.ref a68_3 :: [.int x2]) σ60 (gc_Pr (fun r68 σ68 => ((x4 < 0 → gc_G θ K (nX0_put (n + 1) c s) (gc_Pi P) 104 [(0, va_rf (some a0)), (1, .int x1), (3, .int x3), (4, .int x4), (5, .int x5), (8, va_rf x8), (9, va_rf r60), (10, va_rf r68)] [va_rf (some a0)] σ68 (bc - c60) (bs - s60)) ∧ (¬ x4 < 0 → ((x5 < 0 → gc_G θ K (nX0_put (n + 1) c s) (gc_Pi P) 104 [(0, va_rf (some a0)), (1, .int x1), (3, .int x3), (4, .int x4), (5, .int x5), (8, va_rf x8), (9, va_rf r60), (10, va_rf r68)] [va_rf (some a0)] σ68 (bc - c60) (bs - s60)) ∧ (¬ x5 < 0 → ∃ a88_4 : Nat, r68 = some a88_4 ∧ gc_isN σ68 a88_4 ∧ ∃ a91_5 : Nat, gc_R σ68 804 a88_4 = some a91_5 ∧ gc_is σ68 a91_5 12 ∧ gx_C (gc_O θ) (nJ5_size n) (.ref a91_5 :: []) σ68 (gc_Pi (fun r91 σ91 => (((r91 - x4) < x5 → gc_G θ K (nX0_put (n + 1) c s) (gc_Pi P) 104 [(0, va_rf (some a0)), (1, .int x1), (3, .int x3), (4, .int x4), (5, .int x5), (8, va_rf x8), (9, va_rf r60), (10, va_rf r68)] [va_rf (some a0)] σ91 (bc - c60) (bs - s60)) ∧ (¬ (r91 - x4) < x5 → gc_G θ K (nX0_put (n + 1) c s) (gc_Pi P) 105 [(0, va_rf (some a0)), (1, .int x1), (3, .int x3), (4, .int x4), (5, .int x5), (8, va_rf x8), (9, va_rf r60), (10, va_rf r68)] [.int 1, va_rf (some a0)] σ91 (bc - c60) (bs - s60)))))))))))))) (fun a55 σ55 => gc_is σ55 a55 1 ∧ gc_G θ K (nX0_put (n + 1) c s) (gc_Pi P) 230 [(0, va_rf (some a0))] [va_rf (some a55)] σ55 bc bs))) : gc_G θ K (nX0_put (n + 1) c s) (gc_Pi P) 53 [(0, va_rf (some a0)), (1, .int x1), (2, .int x2), (3, .int x3), (4, .int x4), (5, .int x5), (6, va_rf x6), (8, va_rf x8)] [.int s0, va_rf s1] σ bc bs := by
  refine gx_bipush (v := (-3)) h dX0_put_53 (by decide) ?_
  obtain ⟨a55_1, e55_1, k⟩ := k
  refine gcc_X0_131 (r := s1) (a0 := s0) (a1 := (-3)) h rfl ⟨Nat.le_refl _, Nat.le_refl _⟩ e55_1 k.1 (Nat.le_of_ble_eq_true rfl) dX0_put_55 (gx_C.mono k.2 ?_)
  rintro o σ55 (⟨rfl, k⟩ | ⟨a55, rfl, k⟩)
  · refine Or.inl ⟨rfl, ?_⟩
    refine gx_aloadq (r := x6) h 6 rfl dX0_put_58 ?_
    obtain ⟨a60_2, e60_2, k⟩ := k
    obtain ⟨c60, s60, hb60, k⟩ := k
    refine gcc_X0_173 (r := x6)  h rfl ⟨Nat.le_refl _, Nat.le_refl _⟩ hb60 e60_2 k.1 (Nat.le_of_ble_eq_true rfl) dX0_put_60 (gx_C.mono k.2 ?_)
    rintro _ σ60 ⟨r60, rfl, k⟩
    refine ⟨r60, rfl, ?_⟩
    refine gx_astoreq (r := r60) (L' := [(9, va_rf r60), (0, va_rf (some a0)), (1, .int x1), (2, .int x2), (3, .int x3), (4, .int x4), (5, .int x5), (6, va_rf x6), (8, va_rf x8)]) h (Nat.le_of_ble_eq_true rfl) (by generalize x8 = z; cases z <;> rfl) dX0_put_63 ?_
    refine gx_aloadq (r := r60) h 0 rfl dX0_put_65 ?_
    refine gx_iload_n h 3 rfl dX0_put_67 ?_
    obtain ⟨a68_3, e68_3, k⟩ := k
    refine gcc_X0_127 (r := r60) (a0 := x2) h rfl ⟨Nat.le_refl _, Nat.le_refl _⟩ e68_3 k.1 (Nat.le_of_ble_eq_true rfl) dX0_put_68 (gx_C.mono k.2 ?_)
    rintro _ σ68 ⟨r68, rfl, k⟩
    refine ⟨r68, rfl, ?_⟩
    refine gx_astoreq (r := r68) (L' := [(10, va_rf r68), (9, va_rf r60), (0, va_rf (some a0)), (1, .int x1), (2, .int x2), (3, .int x3), (4, .int x4), (5, .int x5), (6, va_rf x6), (8, va_rf x8)]) h (Nat.le_of_ble_eq_true rfl) (by generalize r60 = z; cases z <;> rfl) dX0_put_71 ?_
    refine gx_aload_nq (r := some a0) h 2 rfl dX0_put_73 ?_
    refine gx_iload h 6 rfl dX0_put_74 ?_
    refine gx_if_lt (tgt := 104) h (by decide) dX0_put_76 (fun c => ?_) (fun c => ?_)
    · replace k := k.1 c
      exact gx_sub [2, 3, 5, 6, 7, 9, 1, 0] rfl k
    · replace k := k.2 c
      refine gx_iload h 7 rfl dX0_put_79 ?_
      refine gx_if_lt (tgt := 104) h (by decide) dX0_put_81 (fun c => ?_) (fun c => ?_)
      · replace k := k.1 c
        exact gx_sub [2, 3, 5, 6, 7, 9, 1, 0] rfl k
      · replace k := k.2 c
        refine gx_iload h 7 rfl dX0_put_84 ?_
        refine gx_aloadq (r := r68) h 0 rfl dX0_put_86 ?_
        obtain ⟨a88_4, e88_4, k⟩ := k
        refine gcg_X0_181 h rfl e88_4 k.1 dX0_put_88 ?_
        replace k := k.2
        obtain ⟨a91_5, e91_5, k⟩ := k
        refine gcc_X0_185 (r := gc_R σ68 804 a88_4)  h rfl ⟨Nat.le_refl _, Nat.le_refl _⟩ e91_5 k.1 (Nat.le_of_ble_eq_true rfl) dX0_put_91 (gx_C.mono k.2 ?_)
        rintro _ σ91 ⟨r91, rfl, k⟩
        refine ⟨r91, rfl, ?_⟩
        refine gx_iload h 6 rfl dX0_put_94 ?_
        refine gx_isub h dX0_put_96 ?_
        refine gx_icmp_gt (tgt := 104) h (by decide) dX0_put_97 (fun c => ?_) (fun c => ?_)
        · replace k := k.1 c
          exact gx_sub [2, 3, 5, 6, 7, 9, 1, 0] rfl k
        · replace k := k.2 c
          refine gx_iconst (v := 1) h dX0_put_100 (by decide) ?_
          refine gx_goto (tgt := 105) h (by decide) dX0_put_101 ?_
          exact gx_sub [2, 3, 5, 6, 7, 9, 1, 0] rfl k
  · refine Or.inr ⟨a55, rfl, ?_⟩
    refine gc_catchF h rfl q107 q109 [] ⟨0, 229, 230, 33⟩ [] rfl rfl rfl rfl k.1 ?_
    replace k := k.2
    exact gx_sub [0] rfl k
theorem bc_X0_put_104 {θ : gc_T} {K : gx_K} {P : Int32 → gc_S → Prop} {σ : gc_S} {x1 x3 x4 x5 : Int32} {x8 x9 x10 s0 : Option Nat} {a0 n c s bc bs : Nat} (h : gc_K θ K (nX0_put (n + 1) c s)) (k : gc_G θ K (nX0_put (n + 1) c s) (gc_Pi P) 105 [(0, va_rf (some a0)), (1, .int x1), (3, .int x3), (4, .int x4), (5, .int x5), (8, va_rf x8), (9, va_rf x9), (10, va_rf x10)] [.int 0, va_rf s0] σ bc bs) : gc_G θ K (nX0_put (n + 1) c s) (gc_Pi P) 104 [(0, va_rf (some a0)), (1, .int x1), (3, .int x3), (4, .int x4), (5, .int x5), (8, va_rf x8), (9, va_rf x9), (10, va_rf x10)] [va_rf s0] σ bc bs := by
  refine gx_iconst (v := 0) h dX0_put_104 (by decide) ?_
  exact k
theorem bc_X0_put_105 {θ : gc_T} {K : gx_K} {P : Int32 → gc_S → Prop} {σ : gc_S} {x1 x3 x4 x5 s0 : Int32} {x8 x9 x10 s1 : Option Nat} {a0 n c s bc bs : Nat} (h : gc_K θ K (nX0_put (n + 1) c s)) (k : ∃ a106_1 : Nat, s1 = some a106_1 ∧ gc_is σ a106_1 0 ∧ gx_C (gc_O θ) (nX0_need n) (.ref a106_1 :: [.int s0, .int (-1)]) σ (gc_Qv (fun σ106 => gc_is σ106 a0 0 ∧ ∃ c119 s119 : Nat, (c119 ≤ bc ∧ s119 ≤ bs) ∧ gx_C (gc_O θ) (nX0_made n c119 s119) [.int x3, .int (gc_I σ106 3 a0), va_rf x8, va_rf (some (gc_aE θ))] σ106 (gc_Pr (fun r119 σ119 => gc_G θ K (nX0_put (n + 1) c s) (gc_Pi P) 127 [(0, va_rf (some a0)), (1, .int x1), (4, .int x4), (5, .int x5), (9, va_rf x9), (10, va_rf x10), (11, va_rf r119), (12, .int 0)] [] σ119 (bc - c119) (bs - s119)))) (fun a106 σ106 => gc_is σ106 a106 1 ∧ gc_G θ K (nX0_put (n + 1) c s) (gc_Pi P) 230 [(0, va_rf (some a0))] [va_rf (some a106)] σ106 bc bs))) : gc_G θ K (nX0_put (n + 1) c s) (gc_Pi P) 105 [(0, va_rf (some a0)), (1, .int x1), (3, .int x3), (4, .int x4), (5, .int x5), (8, va_rf x8), (9, va_rf x9), (10, va_rf x10)] [.int s0, va_rf s1] σ bc bs := by
  refine gx_iconst (v := (-1)) h dX0_put_105 (by decide) ?_
  obtain ⟨a106_1, e106_1, k⟩ := k
  refine gcc_X0_131 (r := s1) (a0 := s0) (a1 := (-1)) h rfl ⟨Nat.le_refl _, Nat.le_refl _⟩ e106_1 k.1 (Nat.le_of_ble_eq_true rfl) dX0_put_106 (gx_C.mono k.2 ?_)
  rintro o σ106 (⟨rfl, k⟩ | ⟨a106, rfl, k⟩)
  · refine Or.inl ⟨rfl, ?_⟩
    refine gx_iload_n h 2 rfl dX0_put_109 ?_
    refine gx_aload_nq (r := some a0) h 0 rfl dX0_put_110 ?_
    refine gcg_X0_159 h rfl rfl k.1 dX0_put_111 ?_
    replace k := k.2
    refine gx_aloadq (r := x8) h 5 rfl dX0_put_114 ?_
    refine gc_empty h rfl q950 dX0_put_116 ?_
    obtain ⟨c119, s119, hb119, k⟩ := k
    refine gcc_X0_238 (a0 := x3) (a1 := gc_I σ106 3 a0) (a2 := x8) (a3 := some (gc_aE θ)) h rfl ⟨Nat.le_refl _, Nat.le_refl _⟩ hb119 (Nat.le_of_ble_eq_true rfl) dX0_put_119 (gx_C.mono k ?_)
    rintro _ σ119 ⟨r119, rfl, k⟩
    refine ⟨r119, rfl, ?_⟩
    refine gx_astoreq (r := r119) (L' := [(11, va_rf r119), (0, va_rf (some a0)), (1, .int x1), (3, .int x3), (4, .int x4), (5, .int x5), (8, va_rf x8), (9, va_rf x9), (10, va_rf x10)]) h (Nat.le_of_ble_eq_true rfl) (by generalize x10 = z; cases z <;> rfl) dX0_put_122 ?_
    refine gx_iconst (v := 0) h dX0_put_124 (by decide) ?_
    refine gx_istore (L' := [(12, .int 0), (11, va_rf r119), (0, va_rf (some a0)), (1, .int x1), (3, .int x3), (4, .int x4), (5, .int x5), (8, va_rf x8), (9, va_rf x9), (10, va_rf x10)]) h (Nat.le_of_ble_eq_true rfl) (by generalize r119 = z; cases z <;> rfl) dX0_put_125 ?_
    exact gx_sub [2, 3, 5, 6, 8, 9, 1, 0] rfl k
  · refine Or.inr ⟨a106, rfl, ?_⟩
    refine gc_catchF h rfl q107 q109 [] ⟨0, 229, 230, 33⟩ [] rfl rfl rfl rfl k.1 ?_
    replace k := k.2
    exact gx_sub [0] rfl k
theorem bc_X0_put_127 {θ : gc_T} {K : gx_K} {P : Int32 → gc_S → Prop} {σ : gc_S} {x1 x4 x5 x12 : Int32} {x9 x10 x11 : Option Nat} {a0 n c s bc bs : Nat} (h : gc_K θ K (nX0_put (n + 1) c s)) (k : ((x5 ≤ x12 → ∃ a164_1 : Nat, x10 = some a164_1 ∧ ∃ c164 s164 : Nat, (c164 ≤ bc ∧ s164 ≤ bs) ∧ gc_isN σ a164_1 ∧ vC_add_2 θ n c164 s164 σ a164_1 [.int x4, va_rf x11] (gc_Pv (fun σ164 => ∃ a170_2 : Nat, x9 = some a170_2 ∧ gc_is σ164 a170_2 7 ∧ gx_C (gc_O θ) (nX8_number n) (.ref a170_2 :: []) σ164 (gc_Pi (fun r170 σ170 => gc_is σ170 a0 0 ∧ gx_C (gc_O θ) (nX0_need n) (.ref a0 :: [.int r170, .int (-5)]) σ170 (gc_Qv (fun σ175 => gc_isN σ175 a164_1 ∧ vC_clashes θ n σ175 a164_1 [] (gc_Pi (fun r181 σ181 => ((r181 = 0 → ∃ a189_3 : Nat, x11 = some a189_3 ∧ gc_isN σ181 a189_3 ∧ vC_clashes θ n σ181 a189_3 [] (gc_Pi (fun r189 σ189 => ((r189 = 0 → gc_G θ K (nX0_put (n + 1) c s) (gc_Pi P) 200 [(0, va_rf (some a0)), (1, .int x1), (9, va_rf x9)] [.int 1, va_rf (some a0)] σ189 (bc - c164) (bs - s164)) ∧ (¬ r189 = 0 → gc_G θ K (nX0_put (n + 1) c s) (gc_Pi P) 199 [(0, va_rf (some a0)), (1, .int x1), (9, va_rf x9)] [va_rf (some a0)] σ189 (bc - c164) (bs - s164)))))) ∧ (¬ r181 = 0 → gc_G θ K (nX0_put (n + 1) c s) (gc_Pi P) 199 [(0, va_rf (some a0)), (1, .int x1), (9, va_rf x9)] [va_rf (some a0)] σ181 (bc - c164) (bs - s164)))))) (fun a175 σ175 => gc_is σ175 a175 1 ∧ gc_G θ K (nX0_put (n + 1) c s) (gc_Pi P) 230 [(0, va_rf (some a0))] [va_rf (some a175)] σ175 (bc - c164) (bs - s164)))))))) ∧ (¬ x5 ≤ x12 → ∃ a138_4 : Nat, x10 = some a138_4 ∧ gc_isN σ a138_4 ∧ ∃ a143_5 : Nat, gc_R σ 804 a138_4 = some a143_5 ∧ gc_is σ a143_5 12 ∧ gx_C (gc_O θ) (nJ5_remove n) (.ref a143_5 :: [.int x4]) σ (gc_Pr (fun r143 σ143 => (∀ a, r143 = some a → gc_isN σ143 a) ∧ ∃ a149_6 : Nat, x11 = some a149_6 ∧ ∃ c149 s149 : Nat, (c149 ≤ bc ∧ s149 ≤ bs) ∧ gc_isN σ143 a149_6 ∧ vC_add θ n c149 s149 σ143 a149_6 [va_rf r143] (gc_Pv (fun σ149 => gc_G θ K (nX0_put (n + 1) c s) (gc_Pi P) 127 [(0, va_rf (some a0)), (1, .int x1), (4, .int x4), (5, .int x5), (9, va_rf x9), (10, va_rf x10), (11, va_rf x11), (12, .int (x12 + 1))] [] σ149 (bc - c149) (bs - s149)))))))) : gc_G θ K (nX0_put (n + 1) c s) (gc_Pi P) 127 [(0, va_rf (some a0)), (1, .int x1), (4, .int x4), (5, .int x5), (9, va_rf x9), (10, va_rf x10), (11, va_rf x11), (12, .int x12)] [] σ bc bs := by
  refine gx_iload h 7 rfl dX0_put_127 ?_
  refine gx_iload h 3 rfl dX0_put_129 ?_
  refine gx_icmp_ge (tgt := 158) h (by decide) dX0_put_131 (fun c => ?_) (fun c => ?_)
  · replace k := k.1 c
    refine gx_aloadq (r := x10) h 5 rfl dX0_put_158 ?_
    refine gx_iload h 2 rfl dX0_put_160 ?_
    refine gx_aloadq (r := x11) h 6 rfl dX0_put_162 ?_
    obtain ⟨a164_1, e164_1, k⟩ := k
    obtain ⟨c164, s164, hb164, k⟩ := k
    refine gcc_X0_249 (r := x10) (a0 := x4) (a1 := x11) h rfl ⟨Nat.le_refl _, Nat.le_refl _⟩ hb164 e164_1 k.1 (Nat.le_of_ble_eq_true rfl) dX0_put_164 (vC_add_2_mono k.2 ?_)
    rintro _ σ164 ⟨rfl, k⟩
    refine ⟨rfl, ?_⟩
    refine gx_aload_nq (r := some a0) h 0 rfl dX0_put_167 ?_
    refine gx_aloadq (r := x9) h 4 rfl dX0_put_168 ?_
    obtain ⟨a170_2, e170_2, k⟩ := k
    refine gcc_X0_252 (r := x9)  h rfl ⟨Nat.le_refl _, Nat.le_refl _⟩ e170_2 k.1 (Nat.le_of_ble_eq_true rfl) dX0_put_170 (gx_C.mono k.2 ?_)
    rintro _ σ170 ⟨r170, rfl, k⟩
    refine ⟨r170, rfl, ?_⟩
    refine gx_bipush (v := (-5)) h dX0_put_173 (by decide) ?_
    refine gcc_X0_131 (r := some a0) (a0 := r170) (a1 := (-5)) h rfl ⟨Nat.le_refl _, Nat.le_refl _⟩ rfl k.1 (Nat.le_of_ble_eq_true rfl) dX0_put_175 (gx_C.mono k.2 ?_)
    rintro o σ175 (⟨rfl, k⟩ | ⟨a175, rfl, k⟩)
    · refine Or.inl ⟨rfl, ?_⟩
      refine gx_aload_nq (r := some a0) h 0 rfl dX0_put_178 ?_
      refine gx_aloadq (r := x10) h 5 rfl dX0_put_179 ?_
      refine gcc_X0_225 (r := x10)  h rfl ⟨Nat.le_refl _, Nat.le_refl _⟩ e164_1 k.1 (Nat.le_of_ble_eq_true rfl) dX0_put_181 (vC_clashes_mono k.2 ?_)
      rintro _ σ181 ⟨r181, rfl, k⟩
      refine ⟨r181, rfl, ?_⟩
      refine gx_if_ne (tgt := 199) h (by decide) dX0_put_184 (fun c => ?_) (fun c => ?_)
      · replace k := k.2 c
        exact gx_sub [0, 1, 4] rfl k
      · replace k := k.1 c
        refine gx_aloadq (r := x11) h 6 rfl dX0_put_187 ?_
        obtain ⟨a189_3, e189_3, k⟩ := k
        refine gcc_X0_225 (r := x11)  h rfl ⟨Nat.le_refl _, Nat.le_refl _⟩ e189_3 k.1 (Nat.le_of_ble_eq_true rfl) dX0_put_189 (vC_clashes_mono k.2 ?_)
        rintro _ σ189 ⟨r189, rfl, k⟩
        refine ⟨r189, rfl, ?_⟩
        refine gx_if_ne (tgt := 199) h (by decide) dX0_put_192 (fun c => ?_) (fun c => ?_)
        · replace k := k.2 c
          exact gx_sub [0, 1, 4] rfl k
        · replace k := k.1 c
          refine gx_iconst (v := 1) h dX0_put_195 (by decide) ?_
          refine gx_goto (tgt := 200) h (by decide) dX0_put_196 ?_
          exact gx_sub [0, 1, 4] rfl k
    · refine Or.inr ⟨a175, rfl, ?_⟩
      refine gc_catchF h rfl q107 q109 [] ⟨0, 229, 230, 33⟩ [] rfl rfl rfl rfl k.1 ?_
      replace k := k.2
      exact gx_sub [0] rfl k
  · replace k := k.2 c
    refine gx_aloadq (r := x11) h 6 rfl dX0_put_134 ?_
    refine gx_aloadq (r := x10) h 5 rfl dX0_put_136 ?_
    obtain ⟨a138_4, e138_4, k⟩ := k
    refine gcg_X0_181 h rfl e138_4 k.1 dX0_put_138 ?_
    replace k := k.2
    refine gx_iload h 2 rfl dX0_put_141 ?_
    obtain ⟨a143_5, e143_5, k⟩ := k
    refine gcc_X0_242 (r := gc_R σ 804 a138_4) (a0 := x4) h rfl ⟨Nat.le_refl _, Nat.le_refl _⟩ e143_5 k.1 (by simp only [List.map_cons, List.map_nil, List.sum_cons, List.sum_nil, gx_cat]; exact Nat.le_of_ble_eq_true rfl) dX0_put_143 (gx_C.mono k.2 ?_)
    rintro _ σ143 ⟨r143, rfl, k⟩
    refine ⟨r143, rfl, ?_⟩
    refine gc_castN (r := r143) h rfl q961 q1639 q1638 q1640 q1641 k.1 dX0_put_146 ?_
    replace k := k.2
    obtain ⟨a149_6, e149_6, k⟩ := k
    obtain ⟨c149, s149, hb149, k⟩ := k
    refine gcc_X0_246 (r := x11) (a0 := r143) h rfl ⟨Nat.le_refl _, Nat.le_refl _⟩ hb149 e149_6 k.1 (Nat.le_of_ble_eq_true rfl) dX0_put_149 (vC_add_mono k.2 ?_)
    rintro _ σ149 ⟨rfl, k⟩
    refine ⟨rfl, ?_⟩
    refine gx_iinc (v := x12 + 1) (L' := [(12, .int (x12 + 1)), (0, va_rf (some a0)), (1, .int x1), (4, .int x4), (5, .int x5), (9, va_rf x9), (10, va_rf x10), (11, va_rf x11)]) h 7 rfl rfl (Nat.le_of_ble_eq_true rfl) (by generalize x11 = z; cases z <;> rfl) dX0_put_152 ?_
    refine gx_goto (tgt := 127) h (by decide) dX0_put_155 ?_
    exact gx_sub [1, 2, 3, 4, 5, 6, 7, 0] rfl k
theorem bc_X0_put_199 {θ : gc_T} {K : gx_K} {P : Int32 → gc_S → Prop} {σ : gc_S} {x1 : Int32} {x9 s0 : Option Nat} {a0 n c s bc bs : Nat} (h : gc_K θ K (nX0_put (n + 1) c s)) (k : gc_G θ K (nX0_put (n + 1) c s) (gc_Pi P) 200 [(0, va_rf (some a0)), (1, .int x1), (9, va_rf x9)] [.int 0, va_rf s0] σ bc bs) : gc_G θ K (nX0_put (n + 1) c s) (gc_Pi P) 199 [(0, va_rf (some a0)), (1, .int x1), (9, va_rf x9)] [va_rf s0] σ bc bs := by
  refine gx_iconst (v := 0) h dX0_put_199 (by decide) ?_
  exact k
theorem bc_X0_put_200 {θ : gc_T} {K : gx_K} {P : Int32 → gc_S → Prop} {σ : gc_S} {x1 s0 : Int32} {x9 s1 : Option Nat} {a0 n c s bc bs : Nat} (h : gc_K θ K (nX0_put (n + 1) c s)) (k : ∃ a202_1 : Nat, s1 = some a202_1 ∧ gc_is σ a202_1 0 ∧ gx_C (gc_O θ) (nX0_need n) (.ref a202_1 :: [.int s0, .int (-4)]) σ (gc_Qv (fun σ202 => gc_is σ202 a0 0 ∧ ∃ a212_2 : Nat, gc_R σ202 2 a0 = some a212_2 ∧ gc_is σ202 a212_2 19 ∧ vp_in x1 (gc_n σ202 a212_2) ∧ (∀ v, x9 = some v → gc_is σ202 v 7) ∧ ∀ σ212, σ212 = gc_sQ σ202 a212_2 x1.toNatClampNeg x9 → gc_is σ212 a0 0 ∧ gc_is σ212 a0 0 ∧ ∀ σ220, σ220 = gc_sI σ212 3 a0 ((gc_I σ212 3 a0) + 1) → gc_is σ220 a0 0 ∧ P ((gc_I σ220 3 a0) - 1) σ220) (fun a202 σ202 => gc_is σ202 a202 1 ∧ gc_G θ K (nX0_put (n + 1) c s) (gc_Pi P) 230 [(0, va_rf (some a0))] [va_rf (some a202)] σ202 bc bs))) : gc_G θ K (nX0_put (n + 1) c s) (gc_Pi P) 200 [(0, va_rf (some a0)), (1, .int x1), (9, va_rf x9)] [.int s0, va_rf s1] σ bc bs := by
  refine gx_bipush (v := (-4)) h dX0_put_200 (by decide) ?_
  obtain ⟨a202_1, e202_1, k⟩ := k
  refine gcc_X0_131 (r := s1) (a0 := s0) (a1 := (-4)) h rfl ⟨Nat.le_refl _, Nat.le_refl _⟩ e202_1 k.1 (Nat.le_of_ble_eq_true rfl) dX0_put_202 (gx_C.mono k.2 ?_)
  rintro o σ202 (⟨rfl, k⟩ | ⟨a202, rfl, k⟩)
  · refine Or.inl ⟨rfl, ?_⟩
    refine gx_aload_nq (r := some a0) h 0 rfl dX0_put_205 ?_
    refine gcg_X0_46 h rfl rfl k.1 dX0_put_206 ?_
    replace k := k.2
    refine gx_iload_n h 1 rfl dX0_put_209 ?_
    refine gx_aloadq (r := x9) h 2 rfl dX0_put_210 ?_
    obtain ⟨a212_2, e212_2, k⟩ := k
    refine gc_aast19E (r := gc_R σ202 2 a0) (w := x9) h e212_2 k.1 k.2.1 k.2.2.1 dX0_put_212 ?_
    generalize hz : gc_sQ σ202 a212_2 x1.toNatClampNeg x9 = σ212
    replace k := k.2.2.2 σ212 hz.symm
    refine gx_aload_nq (r := some a0) h 0 rfl dX0_put_213 ?_
    refine gx_dup h rfl dX0_put_214 ?_
    refine gcg_X0_159 h rfl rfl k.1 dX0_put_215 ?_
    replace k := k.2
    refine gx_iconst (v := 1) h dX0_put_218 (by decide) ?_
    refine gx_iadd h dX0_put_219 ?_
    refine gcp_X0_159 (v := (gc_I σ212 3 a0) + 1) h rfl rfl k.1 dX0_put_220 ?_
    generalize hz : gc_sI σ212 3 a0 ((gc_I σ212 3 a0) + 1) = σ220
    replace k := k.2 σ220 hz.symm
    refine gx_aload_nq (r := some a0) h 0 rfl dX0_put_223 ?_
    refine gcg_X0_159 h rfl rfl k.1 dX0_put_224 ?_
    replace k := k.2
    refine gx_iconst (v := 1) h dX0_put_227 (by decide) ?_
    refine gx_isub h dX0_put_228 ?_
    exact gx_iret h rfl dX0_put_229 (⟨_, rfl, k⟩)
  · refine Or.inr ⟨a202, rfl, ?_⟩
    refine gc_catchF h rfl q107 q109 [] ⟨0, 229, 230, 33⟩ [] rfl rfl rfl rfl k.1 ?_
    replace k := k.2
    exact gx_sub [0] rfl k
theorem bc_X0_put_230 {θ : gc_T} {K : gx_K} {P : Int32 → gc_S → Prop} {σ : gc_S} {a0 s0 n c s bc bs : Nat} (h : gc_K θ K (nX0_put (n + 1) c s)) (k : gc_is σ a0 0 ∧ gx_C (gc_O θ) (nX0_finds n) (.ref a0 :: [va_rf (some s0)]) σ (gc_Pi (fun r235 σ235 => P r235 σ235))) : gc_G θ K (nX0_put (n + 1) c s) (gc_Pi P) 230 [(0, va_rf (some a0))] [va_rf (some s0)] σ bc bs := by
  refine gx_astoreq (r := some s0) (L' := [(6, va_rf (some s0)), (0, va_rf (some a0))]) h (Nat.le_of_ble_eq_true rfl) rfl dX0_put_230 ?_
  refine gx_aload_nq (r := some a0) h 1 rfl dX0_put_232 ?_
  refine gx_aloadq (r := some s0) h 0 rfl dX0_put_233 ?_
  refine gcc_X0_138 (r := some a0) (a0 := some s0) h rfl ⟨Nat.le_refl _, Nat.le_refl _⟩ rfl k.1 (Nat.le_of_ble_eq_true rfl) dX0_put_235 (gx_C.mono k.2 ?_)
  rintro _ σ235 ⟨r235, rfl, k⟩
  refine ⟨r235, rfl, ?_⟩
  exact gx_iret h rfl dX0_put_238 (⟨_, rfl, k⟩)
/-! X0.take -/
theorem ec_X0_take {θ : gc_T} {P : Int32 → gc_S → Prop} {σ : gc_S} {n c s : Nat} {a0 : Nat} {x1 : Int32} {x2 : Int32} (body : ∀ K, gc_K θ K (nX0_take (n + 1) c s) → gc_G θ K (nX0_take (n + 1) c s) (gc_Pi P) 0 [(0, va_rf (some a0)), (1, .int x1), (2, .int x2)] [] σ c s) : gx_C (gc_O θ) (nX0_take (n + 1) c s) [.ref a0, .int x1, .int x2] σ (gc_Pi P) :=
  gx_C.intro (gc_z_warm θ) rfl (Nat.le_of_ble_eq_true rfl) body
theorem bc_X0_take_0 {θ : gc_T} {K : gx_K} {P : Int32 → gc_S → Prop} {σ : gc_S} {x1 x2 : Int32} {a0 n c s bc bs : Nat} (h : gc_K θ K (nX0_take (n + 1) c s)) (k : ∃ c2 s2 : Nat, (c2 ≤ bc ∧ s2 ≤ bs) ∧ gc_is σ a0 0 ∧ gx_C (gc_O θ) (nX0_tree n c2 s2) (.ref a0 :: [.int x1]) σ (gc_Qr (fun r2 σ2 => gc_is σ2 a0 0 ∧ gx_C (gc_O θ) (nX0_node_2 n) (.ref a0 :: [va_rf r2, .int x2]) σ2 (gc_Qr (fun r10 σ10 => ∃ a14_1 : Nat, r2 = some a14_1 ∧ gc_is σ10 a14_1 7 ∧ ((r10 = (gc_R σ10 700 a14_1) → gc_G θ K (nX0_take (n + 1) c s) (gc_Pi P) 25 [(0, va_rf (some a0)), (1, .int x1), (2, .int x2), (3, va_rf r2)] [.int 0, va_rf (some a0)] σ10 (bc - c2) (bs - s2)) ∧ (¬ r10 = (gc_R σ10 700 a14_1) → gc_G θ K (nX0_take (n + 1) c s) (gc_Pi P) 25 [(0, va_rf (some a0)), (1, .int x1), (2, .int x2), (3, va_rf r2)] [.int 1, va_rf (some a0)] σ10 (bc - c2) (bs - s2)))) (fun a10 σ10 => gc_is σ10 a10 1 ∧ gc_G θ K (nX0_take (n + 1) c s) (gc_Pi P) 159 [(0, va_rf (some a0))] [va_rf (some a10)] σ10 (bc - c2) (bs - s2)))) (fun a2 σ2 => gc_is σ2 a2 1 ∧ gc_G θ K (nX0_take (n + 1) c s) (gc_Pi P) 159 [(0, va_rf (some a0))] [va_rf (some a2)] σ2 (bc - c2) (bs - s2)))) : gc_G θ K (nX0_take (n + 1) c s) (gc_Pi P) 0 [(0, va_rf (some a0)), (1, .int x1), (2, .int x2)] [] σ bc bs := by
  refine gx_aload_nq (r := some a0) h 0 rfl dX0_take_0 ?_
  refine gx_iload_n h 1 rfl dX0_take_1 ?_
  obtain ⟨c2, s2, hb2, k⟩ := k
  refine gcc_X0_162 (r := some a0) (a0 := x1) h rfl ⟨Nat.le_refl _, Nat.le_refl _⟩ hb2 rfl k.1 (Nat.le_of_ble_eq_true rfl) dX0_take_2 (gx_C.mono k.2 ?_)
  rintro o σ2 (⟨r2, rfl, k⟩ | ⟨a2, rfl, k⟩)
  · refine Or.inl ⟨r2, rfl, ?_⟩
    refine gx_astore_nq (r := r2) (L' := [(3, va_rf r2), (0, va_rf (some a0)), (1, .int x1), (2, .int x2)]) h (Nat.le_of_ble_eq_true rfl) rfl dX0_take_5 ?_
    refine gx_aload_nq (r := some a0) h 1 rfl dX0_take_6 ?_
    refine gx_aload_nq (r := some a0) h 1 rfl dX0_take_7 ?_
    refine gx_aload_nq (r := r2) h 0 rfl dX0_take_8 ?_
    refine gx_iload_n h 3 rfl dX0_take_9 ?_
    refine gcc_X0_214 (r := some a0) (a0 := r2) (a1 := x2) h rfl ⟨Nat.le_refl _, Nat.le_refl _⟩ rfl k.1 (Nat.le_of_ble_eq_true rfl) dX0_take_10 (gx_C.mono k.2 ?_)
    rintro o σ10 (⟨r10, rfl, k⟩ | ⟨a10, rfl, k⟩)
    · refine Or.inl ⟨r10, rfl, ?_⟩
      refine gx_aload_nq (r := r2) h 0 rfl dX0_take_13 ?_
      obtain ⟨a14_1, e14_1, k⟩ := k
      refine gcg_X0_114 h rfl e14_1 k.1 dX0_take_14 ?_
      replace k := k.2
      refine gx_acmp_eq (u := r10) (v := (gc_R σ10 700 a14_1)) (tgt := 24) h (by decide) dX0_take_17 (fun c => ?_) (fun c => ?_)
      · replace k := k.1 c
        refine gx_iconst (v := 0) h dX0_take_24 (by decide) ?_
        exact gx_sub [1, 2, 3, 0] rfl k
      · replace k := k.2 c
        refine gx_iconst (v := 1) h dX0_take_20 (by decide) ?_
        refine gx_goto (tgt := 25) h (by decide) dX0_take_21 ?_
        exact gx_sub [1, 2, 3, 0] rfl k
    · refine Or.inr ⟨a10, rfl, ?_⟩
      refine gc_catchF h rfl q107 q109 [] ⟨0, 158, 159, 33⟩ [] rfl rfl rfl rfl k.1 ?_
      replace k := k.2
      exact gx_sub [1] rfl k
  · refine Or.inr ⟨a2, rfl, ?_⟩
    refine gc_catchF h rfl q107 q109 [] ⟨0, 158, 159, 33⟩ [] rfl rfl rfl rfl k.1 ?_
    replace k := k.2
    exact gx_sub [0] rfl k
theorem bc_X0_take_25 {θ : gc_T} {K : gx_K} {P : Int32 → gc_S → Prop} {σ : gc_S} {x1 x2 s0 : Int32} {x3 s1 : Option Nat} {a0 n c s bc bs : Nat} (h : gc_K θ K (nX0_take (n + 1) c s)) (k : ∃ a27_1 : Nat, s1 = some a27_1 ∧ gc_is σ a27_1 0 ∧ gx_C (gc_O θ) (nX0_need n) (.ref a27_1 :: [.int s0, .int (-7)]) σ (gc_Qv (fun σ27 => ∃ a31_2 : Nat, x3 = some a31_2 ∧ ∃ c31 s31 : Nat, (c31 ≤ bc ∧ s31 ≤ bs) ∧ gc_is σ27 a31_2 7 ∧ gx_C (gc_O θ) (nX8_copy n c31 s31) (.ref a31_2 :: []) σ27 (gc_Pr (fun r31 σ31 => ∃ a39_3 : Nat, r31 = some a39_3 ∧ gc_is σ31 a39_3 7 ∧ gx_C (gc_O θ) (nX8_find n) (.ref a39_3 :: [.int x2]) σ31 (gc_Pr (fun r39 σ39 => ∃ a46_4 : Nat, r39 = some a46_4 ∧ gc_isN σ39 a46_4 ∧ ∃ a53_5 : Nat, gc_R σ39 803 a46_4 = some a53_5 ∧ gc_isN σ39 a53_5 ∧ ∃ a58_6 : Nat, gc_R σ39 804 a53_5 = some a58_6 ∧ gc_is σ39 a58_6 12 ∧ gx_C (gc_O θ) (nJ5_indexOf n) (.ref a58_6 :: [va_rf r39]) σ39 (gc_Pi (fun r58 σ58 => gc_isN σ58 a53_5 ∧ ∃ a70_7 : Nat, gc_R σ58 804 a53_5 = some a70_7 ∧ gc_is σ58 a70_7 12 ∧ gx_C (gc_O θ) (nJ5_remove n) (.ref a70_7 :: [.int r58]) σ58 (gc_Pr (fun r70 σ70 => gc_isN σ70 a46_4 ∧ ∃ a79_8 : Nat, gc_R σ70 804 a46_4 = some a79_8 ∧ gc_is σ70 a79_8 12 ∧ gx_C (gc_O θ) (nJ5_size n) (.ref a79_8 :: []) σ70 (gc_Pi (fun r79 σ79 => gc_G θ K (nX0_take (n + 1) c s) (gc_Pi P) 87 [(0, va_rf (some a0)), (1, .int x1), (4, va_rf r31), (5, va_rf r39), (6, va_rf (gc_R σ39 803 a46_4)), (7, .int r58), (8, .int r79), (9, .int 0)] [] σ79 (bc - c31) (bs - s31)))))))))))) (fun a27 σ27 => gc_is σ27 a27 1 ∧ gc_G θ K (nX0_take (n + 1) c s) (gc_Pi P) 159 [(0, va_rf (some a0))] [va_rf (some a27)] σ27 bc bs))) : gc_G θ K (nX0_take (n + 1) c s) (gc_Pi P) 25 [(0, va_rf (some a0)), (1, .int x1), (2, .int x2), (3, va_rf x3)] [.int s0, va_rf s1] σ bc bs := by
  refine gx_bipush (v := (-7)) h dX0_take_25 (by decide) ?_
  obtain ⟨a27_1, e27_1, k⟩ := k
  refine gcc_X0_131 (r := s1) (a0 := s0) (a1 := (-7)) h rfl ⟨Nat.le_refl _, Nat.le_refl _⟩ e27_1 k.1 (Nat.le_of_ble_eq_true rfl) dX0_take_27 (gx_C.mono k.2 ?_)
  rintro o σ27 (⟨rfl, k⟩ | ⟨a27, rfl, k⟩)
  · refine Or.inl ⟨rfl, ?_⟩
    refine gx_aload_nq (r := x3) h 3 rfl dX0_take_30 ?_
    obtain ⟨a31_2, e31_2, k⟩ := k
    obtain ⟨c31, s31, hb31, k⟩ := k
    refine gcc_X0_173 (r := x3)  h rfl ⟨Nat.le_refl _, Nat.le_refl _⟩ hb31 e31_2 k.1 (Nat.le_of_ble_eq_true rfl) dX0_take_31 (gx_C.mono k.2 ?_)
    rintro _ σ31 ⟨r31, rfl, k⟩
    refine ⟨r31, rfl, ?_⟩
    refine gx_astoreq (r := r31) (L' := [(4, va_rf r31), (0, va_rf (some a0)), (1, .int x1), (2, .int x2), (3, va_rf x3)]) h (Nat.le_of_ble_eq_true rfl) (by generalize x3 = z; cases z <;> rfl) dX0_take_34 ?_
    refine gx_aloadq (r := r31) h 0 rfl dX0_take_36 ?_
    refine gx_iload_n h 3 rfl dX0_take_38 ?_
    obtain ⟨a39_3, e39_3, k⟩ := k
    refine gcc_X0_127 (r := r31) (a0 := x2) h rfl ⟨Nat.le_refl _, Nat.le_refl _⟩ e39_3 k.1 (Nat.le_of_ble_eq_true rfl) dX0_take_39 (gx_C.mono k.2 ?_)
    rintro _ σ39 ⟨r39, rfl, k⟩
    refine ⟨r39, rfl, ?_⟩
    refine gx_astoreq (r := r39) (L' := [(5, va_rf r39), (4, va_rf r31), (0, va_rf (some a0)), (1, .int x1), (2, .int x2), (3, va_rf x3)]) h (Nat.le_of_ble_eq_true rfl) (by generalize r31 = z; cases z <;> rfl) dX0_take_42 ?_
    refine gx_aloadq (r := r39) h 0 rfl dX0_take_44 ?_
    obtain ⟨a46_4, e46_4, k⟩ := k
    refine gcg_X0_192 h rfl e46_4 k.1 dX0_take_46 ?_
    replace k := k.2
    refine gx_astoreq (r := gc_R σ39 803 a46_4) (L' := [(6, va_rf (gc_R σ39 803 a46_4)), (5, va_rf r39), (4, va_rf r31), (0, va_rf (some a0)), (1, .int x1), (2, .int x2), (3, va_rf x3)]) h (Nat.le_of_ble_eq_true rfl) (by generalize r39 = z; cases z <;> rfl) dX0_take_49 ?_
    refine gx_aloadq (r := gc_R σ39 803 a46_4) h 0 rfl dX0_take_51 ?_
    obtain ⟨a53_5, e53_5, k⟩ := k
    refine gcg_X0_181 h rfl e53_5 k.1 dX0_take_53 ?_
    replace k := k.2
    refine gx_aloadq (r := r39) h 1 rfl dX0_take_56 ?_
    obtain ⟨a58_6, e58_6, k⟩ := k
    refine gcc_X0_255 (r := gc_R σ39 804 a53_5) (a0 := r39) h rfl ⟨Nat.le_refl _, Nat.le_refl _⟩ e58_6 k.1 (Nat.le_of_ble_eq_true rfl) dX0_take_58 (gx_C.mono k.2 ?_)
    rintro _ σ58 ⟨r58, rfl, k⟩
    refine ⟨r58, rfl, ?_⟩
    refine gx_istore (L' := [(7, .int r58), (6, va_rf (gc_R σ39 803 a46_4)), (5, va_rf r39), (4, va_rf r31), (0, va_rf (some a0)), (1, .int x1), (2, .int x2), (3, va_rf x3)]) h (Nat.le_of_ble_eq_true rfl) (by generalize gc_R σ39 803 a46_4 = z; cases z <;> rfl) dX0_take_61 ?_
    refine gx_aloadq (r := gc_R σ39 803 a46_4) h 1 rfl dX0_take_63 ?_
    refine gcg_X0_181 h rfl e53_5 k.1 dX0_take_65 ?_
    replace k := k.2
    refine gx_iload h 0 rfl dX0_take_68 ?_
    obtain ⟨a70_7, e70_7, k⟩ := k
    refine gcc_X0_242 (r := gc_R σ58 804 a53_5) (a0 := r58) h rfl ⟨Nat.le_refl _, Nat.le_refl _⟩ e70_7 k.1 (Nat.le_of_ble_eq_true rfl) dX0_take_70 (gx_C.mono k.2 ?_)
    rintro _ σ70 ⟨r70, rfl, k⟩
    refine ⟨r70, rfl, ?_⟩
    refine gx_pop h (gx_cat _) dX0_take_73 ?_
    refine gx_aloadq (r := r39) h 2 rfl dX0_take_74 ?_
    refine gcg_X0_181 h rfl e46_4 k.1 dX0_take_76 ?_
    replace k := k.2
    obtain ⟨a79_8, e79_8, k⟩ := k
    refine gcc_X0_185 (r := gc_R σ70 804 a46_4)  h rfl ⟨Nat.le_refl _, Nat.le_refl _⟩ e79_8 k.1 (Nat.le_of_ble_eq_true rfl) dX0_take_79 (gx_C.mono k.2 ?_)
    rintro _ σ79 ⟨r79, rfl, k⟩
    refine ⟨r79, rfl, ?_⟩
    refine gx_istore (L' := [(8, .int r79), (7, .int r58), (6, va_rf (gc_R σ39 803 a46_4)), (5, va_rf r39), (4, va_rf r31), (0, va_rf (some a0)), (1, .int x1), (2, .int x2), (3, va_rf x3)]) h (Nat.le_of_ble_eq_true rfl) rfl dX0_take_82 ?_
    refine gx_iconst (v := 0) h dX0_take_84 (by decide) ?_
    refine gx_istore (L' := [(9, .int 0), (8, .int r79), (7, .int r58), (6, va_rf (gc_R σ39 803 a46_4)), (5, va_rf r39), (4, va_rf r31), (0, va_rf (some a0)), (1, .int x1), (2, .int x2), (3, va_rf x3)]) h (Nat.le_of_ble_eq_true rfl) rfl dX0_take_85 ?_
    exact gx_sub [6, 7, 5, 4, 3, 2, 1, 0] rfl k
  · refine Or.inr ⟨a27, rfl, ?_⟩
    refine gc_catchF h rfl q107 q109 [] ⟨0, 158, 159, 33⟩ [] rfl rfl rfl rfl k.1 ?_
    replace k := k.2
    exact gx_sub [0] rfl k
theorem bc_X0_take_87 {θ : gc_T} {K : gx_K} {P : Int32 → gc_S → Prop} {σ : gc_S} {x1 x7 x8 x9 : Int32} {x4 x5 x6 : Option Nat} {a0 n c s bc bs : Nat} (h : gc_K θ K (nX0_take (n + 1) c s)) (k : ((x8 ≤ x9 → ∃ a126_1 : Nat, x6 = some a126_1 ∧ gc_isN σ a126_1 ∧ vC_clashes θ n σ a126_1 [] (gc_Pi (fun r126 σ126 => ((r126 = 0 → gc_G θ K (nX0_take (n + 1) c s) (gc_Pi P) 137 [(0, va_rf (some a0)), (1, .int x1), (4, va_rf x4), (8, .int x8)] [.int 1, va_rf (some a0)] σ126 bc bs) ∧ (¬ r126 = 0 → gc_G θ K (nX0_take (n + 1) c s) (gc_Pi P) 137 [(0, va_rf (some a0)), (1, .int x1), (4, va_rf x4), (8, .int x8)] [.int 0, va_rf (some a0)] σ126 bc bs))))) ∧ (¬ x8 ≤ x9 → ∃ a103_2 : Nat, x5 = some a103_2 ∧ gc_isN σ a103_2 ∧ ∃ a108_3 : Nat, gc_R σ 804 a103_2 = some a108_3 ∧ gc_is σ a108_3 12 ∧ gx_C (gc_O θ) (nJ5_get n) (.ref a108_3 :: [.int x9]) σ (gc_Pr (fun r108 σ108 => (∀ a, r108 = some a → gc_isN σ108 a) ∧ ∃ a114_4 : Nat, x6 = some a114_4 ∧ ∃ c114 s114 : Nat, (c114 ≤ bc ∧ s114 ≤ bs) ∧ gc_isN σ108 a114_4 ∧ vC_add_2 θ n c114 s114 σ108 a114_4 [.int (x7 + x9), va_rf r108] (gc_Pv (fun σ114 => gc_G θ K (nX0_take (n + 1) c s) (gc_Pi P) 87 [(0, va_rf (some a0)), (1, .int x1), (4, va_rf x4), (5, va_rf x5), (6, va_rf x6), (7, .int x7), (8, .int x8), (9, .int (x9 + 1))] [] σ114 (bc - c114) (bs - s114)))))))) : gc_G θ K (nX0_take (n + 1) c s) (gc_Pi P) 87 [(0, va_rf (some a0)), (1, .int x1), (4, va_rf x4), (5, va_rf x5), (6, va_rf x6), (7, .int x7), (8, .int x8), (9, .int x9)] [] σ bc bs := by
  refine gx_iload h 7 rfl dX0_take_87 ?_
  refine gx_iload h 6 rfl dX0_take_89 ?_
  refine gx_icmp_ge (tgt := 123) h (by decide) dX0_take_91 (fun c => ?_) (fun c => ?_)
  · replace k := k.1 c
    refine gx_aload_nq (r := some a0) h 0 rfl dX0_take_123 ?_
    refine gx_aloadq (r := x6) h 4 rfl dX0_take_124 ?_
    obtain ⟨a126_1, e126_1, k⟩ := k
    refine gcc_X0_225 (r := x6)  h rfl ⟨Nat.le_refl _, Nat.le_refl _⟩ e126_1 k.1 (Nat.le_of_ble_eq_true rfl) dX0_take_126 (vC_clashes_mono k.2 ?_)
    rintro _ σ126 ⟨r126, rfl, k⟩
    refine ⟨r126, rfl, ?_⟩
    refine gx_if_ne (tgt := 136) h (by decide) dX0_take_129 (fun c => ?_) (fun c => ?_)
    · replace k := k.2 c
      refine gx_iconst (v := 0) h dX0_take_136 (by decide) ?_
      exact gx_sub [0, 1, 2, 6] rfl k
    · replace k := k.1 c
      refine gx_iconst (v := 1) h dX0_take_132 (by decide) ?_
      refine gx_goto (tgt := 137) h (by decide) dX0_take_133 ?_
      exact gx_sub [0, 1, 2, 6] rfl k
  · replace k := k.2 c
    refine gx_aloadq (r := x6) h 4 rfl dX0_take_94 ?_
    refine gx_iload h 5 rfl dX0_take_96 ?_
    refine gx_iload h 7 rfl dX0_take_98 ?_
    refine gx_iadd h dX0_take_100 ?_
    refine gx_aloadq (r := x5) h 3 rfl dX0_take_101 ?_
    obtain ⟨a103_2, e103_2, k⟩ := k
    refine gcg_X0_181 h rfl e103_2 k.1 dX0_take_103 ?_
    replace k := k.2
    refine gx_iload h 7 rfl dX0_take_106 ?_
    obtain ⟨a108_3, e108_3, k⟩ := k
    refine gcc_X0_259 (r := gc_R σ 804 a103_2) (a0 := x9) h rfl ⟨Nat.le_refl _, Nat.le_refl _⟩ e108_3 k.1 (by simp only [List.map_cons, List.map_nil, List.sum_cons, List.sum_nil, gx_cat]; exact Nat.le_of_ble_eq_true rfl) dX0_take_108 (gx_C.mono k.2 ?_)
    rintro _ σ108 ⟨r108, rfl, k⟩
    refine ⟨r108, rfl, ?_⟩
    refine gc_castN (r := r108) h rfl q961 q1639 q1638 q1640 q1641 k.1 dX0_take_111 ?_
    replace k := k.2
    obtain ⟨a114_4, e114_4, k⟩ := k
    obtain ⟨c114, s114, hb114, k⟩ := k
    refine gcc_X0_249 (r := x6) (a0 := x7 + x9) (a1 := r108) h rfl ⟨Nat.le_refl _, Nat.le_refl _⟩ hb114 e114_4 k.1 (Nat.le_of_ble_eq_true rfl) dX0_take_114 (vC_add_2_mono k.2 ?_)
    rintro _ σ114 ⟨rfl, k⟩
    refine ⟨rfl, ?_⟩
    refine gx_iinc (v := x9 + 1) (L' := [(9, .int (x9 + 1)), (0, va_rf (some a0)), (1, .int x1), (4, va_rf x4), (5, va_rf x5), (6, va_rf x6), (7, .int x7), (8, .int x8)]) h 7 rfl rfl (Nat.le_of_ble_eq_true rfl) rfl dX0_take_117 ?_
    refine gx_goto (tgt := 87) h (by decide) dX0_take_120 ?_
    exact gx_sub [1, 2, 3, 4, 5, 6, 7, 0] rfl k
theorem bc_X0_take_137 {θ : gc_T} {K : gx_K} {P : Int32 → gc_S → Prop} {σ : gc_S} {x1 x8 s0 : Int32} {x4 s1 : Option Nat} {a0 n c s bc bs : Nat} (h : gc_K θ K (nX0_take (n + 1) c s)) (k : ∃ a139_1 : Nat, s1 = some a139_1 ∧ gc_is σ a139_1 0 ∧ gx_C (gc_O θ) (nX0_need n) (.ref a139_1 :: [.int s0, .int (-4)]) σ (gc_Qv (fun σ139 => ∃ a144_2 : Nat, x4 = some a144_2 ∧ gc_is σ139 a144_2 7 ∧ gx_C (gc_O θ) (nX8_number n) (.ref a144_2 :: []) σ139 (gc_Pi (fun r144 σ144 => gc_is σ144 a0 0 ∧ ∃ a155_3 : Nat, gc_R σ144 2 a0 = some a155_3 ∧ gc_is σ144 a155_3 19 ∧ vp_in x1 (gc_n σ144 a155_3) ∧ (∀ v, x4 = some v → gc_is σ144 v 7) ∧ ∀ σ155, σ155 = gc_sQ σ144 a155_3 x1.toNatClampNeg x4 → P x8 σ155))) (fun a139 σ139 => gc_is σ139 a139 1 ∧ gc_G θ K (nX0_take (n + 1) c s) (gc_Pi P) 159 [(0, va_rf (some a0))] [va_rf (some a139)] σ139 bc bs))) : gc_G θ K (nX0_take (n + 1) c s) (gc_Pi P) 137 [(0, va_rf (some a0)), (1, .int x1), (4, va_rf x4), (8, .int x8)] [.int s0, va_rf s1] σ bc bs := by
  refine gx_bipush (v := (-4)) h dX0_take_137 (by decide) ?_
  obtain ⟨a139_1, e139_1, k⟩ := k
  refine gcc_X0_131 (r := s1) (a0 := s0) (a1 := (-4)) h rfl ⟨Nat.le_refl _, Nat.le_refl _⟩ e139_1 k.1 (Nat.le_of_ble_eq_true rfl) dX0_take_139 (gx_C.mono k.2 ?_)
  rintro o σ139 (⟨rfl, k⟩ | ⟨a139, rfl, k⟩)
  · refine Or.inl ⟨rfl, ?_⟩
    refine gx_aloadq (r := x4) h 2 rfl dX0_take_142 ?_
    obtain ⟨a144_2, e144_2, k⟩ := k
    refine gcc_X0_252 (r := x4)  h rfl ⟨Nat.le_refl _, Nat.le_refl _⟩ e144_2 k.1 (Nat.le_of_ble_eq_true rfl) dX0_take_144 (gx_C.mono k.2 ?_)
    rintro _ σ144 ⟨r144, rfl, k⟩
    refine ⟨r144, rfl, ?_⟩
    refine gx_pop h rfl dX0_take_147 ?_
    refine gx_aload_nq (r := some a0) h 0 rfl dX0_take_148 ?_
    refine gcg_X0_46 h rfl rfl k.1 dX0_take_149 ?_
    replace k := k.2
    refine gx_iload_n h 1 rfl dX0_take_152 ?_
    refine gx_aloadq (r := x4) h 2 rfl dX0_take_153 ?_
    obtain ⟨a155_3, e155_3, k⟩ := k
    refine gc_aast19E (r := gc_R σ144 2 a0) (w := x4) h e155_3 k.1 k.2.1 k.2.2.1 dX0_take_155 ?_
    generalize hz : gc_sQ σ144 a155_3 x1.toNatClampNeg x4 = σ155
    replace k := k.2.2.2 σ155 hz.symm
    refine gx_iload h 3 rfl dX0_take_156 ?_
    exact gx_iret h rfl dX0_take_158 (⟨_, rfl, k⟩)
  · refine Or.inr ⟨a139, rfl, ?_⟩
    refine gc_catchF h rfl q107 q109 [] ⟨0, 158, 159, 33⟩ [] rfl rfl rfl rfl k.1 ?_
    replace k := k.2
    exact gx_sub [0] rfl k
theorem bc_X0_take_159 {θ : gc_T} {K : gx_K} {P : Int32 → gc_S → Prop} {σ : gc_S} {a0 s0 n c s bc bs : Nat} (h : gc_K θ K (nX0_take (n + 1) c s)) (k : gc_is σ a0 0 ∧ gx_C (gc_O θ) (nX0_finds n) (.ref a0 :: [va_rf (some s0)]) σ (gc_Pi (fun r162 σ162 => P r162 σ162))) : gc_G θ K (nX0_take (n + 1) c s) (gc_Pi P) 159 [(0, va_rf (some a0))] [va_rf (some s0)] σ bc bs := by
  refine gx_astore_nq (r := some s0) (L' := [(3, va_rf (some s0)), (0, va_rf (some a0))]) h (Nat.le_of_ble_eq_true rfl) rfl dX0_take_159 ?_
  refine gx_aload_nq (r := some a0) h 1 rfl dX0_take_160 ?_
  refine gx_aload_nq (r := some s0) h 0 rfl dX0_take_161 ?_
  refine gcc_X0_138 (r := some a0) (a0 := some s0) h rfl ⟨Nat.le_refl _, Nat.le_refl _⟩ rfl k.1 (Nat.le_of_ble_eq_true rfl) dX0_take_162 (gx_C.mono k.2 ?_)
  rintro _ σ162 ⟨r162, rfl, k⟩
  refine ⟨r162, rfl, ?_⟩
  exact gx_iret h rfl dX0_take_165 (⟨_, rfl, k⟩)
/-! X0.move -/
theorem ec_X0_move {θ : gc_T} {P : Int32 → gc_S → Prop} {σ : gc_S} {n c s : Nat} {a0 : Nat} {x1 : Int32} {x2 : Int32} {x3 : Int32} {x4 : Int32} (body : ∀ K, gc_K θ K (nX0_move (n + 1) c s) → gc_G θ K (nX0_move (n + 1) c s) (gc_Pi P) 0 [(0, va_rf (some a0)), (1, .int x1), (2, .int x2), (3, .int x3), (4, .int x4)] [] σ c s) : gx_C (gc_O θ) (nX0_move (n + 1) c s) [.ref a0, .int x1, .int x2, .int x3, .int x4] σ (gc_Pi P) :=
  gx_C.intro (gc_z_warm θ) rfl (Nat.le_of_ble_eq_true rfl) body
theorem bc_X0_move_0 {θ : gc_T} {K : gx_K} {P : Int32 → gc_S → Prop} {σ : gc_S} {x1 x2 x3 x4 : Int32} {a0 n c s bc bs : Nat} (h : gc_K θ K (nX0_move (n + 1) c s)) (k : ∃ c2 s2 : Nat, (c2 ≤ bc ∧ s2 ≤ bs) ∧ gc_is σ a0 0 ∧ gx_C (gc_O θ) (nX0_tree n c2 s2) (.ref a0 :: [.int x1]) σ (gc_Qr (fun r2 σ2 => gc_is σ2 a0 0 ∧ gx_C (gc_O θ) (nX0_node_2 n) (.ref a0 :: [va_rf r2, .int x2]) σ2 (gc_Qr (fun r11 σ11 => ∃ a21_1 : Nat, r2 = some a21_1 ∧ gc_is σ11 a21_1 7 ∧ ((r11 = (gc_R σ11 700 a21_1) → gc_G θ K (nX0_move (n + 1) c s) (gc_Pi P) 32 [(0, va_rf (some a0)), (1, .int x1), (2, .int x2), (3, .int x3), (4, .int x4), (5, va_rf r2), (6, va_rf r11)] [.int 0, va_rf (some a0)] σ11 (bc - c2) (bs - s2)) ∧ (¬ r11 = (gc_R σ11 700 a21_1) → gc_G θ K (nX0_move (n + 1) c s) (gc_Pi P) 32 [(0, va_rf (some a0)), (1, .int x1), (2, .int x2), (3, .int x3), (4, .int x4), (5, va_rf r2), (6, va_rf r11)] [.int 1, va_rf (some a0)] σ11 (bc - c2) (bs - s2)))) (fun a11 σ11 => gc_is σ11 a11 1 ∧ gc_G θ K (nX0_move (n + 1) c s) (gc_Pi P) 220 [(0, va_rf (some a0))] [va_rf (some a11)] σ11 (bc - c2) (bs - s2)))) (fun a2 σ2 => gc_is σ2 a2 1 ∧ gc_G θ K (nX0_move (n + 1) c s) (gc_Pi P) 220 [(0, va_rf (some a0))] [va_rf (some a2)] σ2 (bc - c2) (bs - s2)))) : gc_G θ K (nX0_move (n + 1) c s) (gc_Pi P) 0 [(0, va_rf (some a0)), (1, .int x1), (2, .int x2), (3, .int x3), (4, .int x4)] [] σ bc bs := by
  refine gx_aload_nq (r := some a0) h 0 rfl dX0_move_0 ?_
  refine gx_iload_n h 1 rfl dX0_move_1 ?_
  obtain ⟨c2, s2, hb2, k⟩ := k
  refine gcc_X0_162 (r := some a0) (a0 := x1) h rfl ⟨Nat.le_refl _, Nat.le_refl _⟩ hb2 rfl k.1 (Nat.le_of_ble_eq_true rfl) dX0_move_2 (gx_C.mono k.2 ?_)
  rintro o σ2 (⟨r2, rfl, k⟩ | ⟨a2, rfl, k⟩)
  · refine Or.inl ⟨r2, rfl, ?_⟩
    refine gx_astoreq (r := r2) (L' := [(5, va_rf r2), (0, va_rf (some a0)), (1, .int x1), (2, .int x2), (3, .int x3), (4, .int x4)]) h (Nat.le_of_ble_eq_true rfl) rfl dX0_move_5 ?_
    refine gx_aload_nq (r := some a0) h 1 rfl dX0_move_7 ?_
    refine gx_aloadq (r := r2) h 0 rfl dX0_move_8 ?_
    refine gx_iload_n h 3 rfl dX0_move_10 ?_
    refine gcc_X0_214 (r := some a0) (a0 := r2) (a1 := x2) h rfl ⟨Nat.le_refl _, Nat.le_refl _⟩ rfl k.1 (Nat.le_of_ble_eq_true rfl) dX0_move_11 (gx_C.mono k.2 ?_)
    rintro o σ11 (⟨r11, rfl, k⟩ | ⟨a11, rfl, k⟩)
    · refine Or.inl ⟨r11, rfl, ?_⟩
      refine gx_astoreq (r := r11) (L' := [(6, va_rf r11), (5, va_rf r2), (0, va_rf (some a0)), (1, .int x1), (2, .int x2), (3, .int x3), (4, .int x4)]) h (Nat.le_of_ble_eq_true rfl) (by generalize r2 = z; cases z <;> rfl) dX0_move_14 ?_
      refine gx_aload_nq (r := some a0) h 2 rfl dX0_move_16 ?_
      refine gx_aloadq (r := r11) h 0 rfl dX0_move_17 ?_
      refine gx_aloadq (r := r2) h 1 rfl dX0_move_19 ?_
      obtain ⟨a21_1, e21_1, k⟩ := k
      refine gcg_X0_114 h rfl e21_1 k.1 dX0_move_21 ?_
      replace k := k.2
      refine gx_acmp_eq (u := r11) (v := (gc_R σ11 700 a21_1)) (tgt := 31) h (by decide) dX0_move_24 (fun c => ?_) (fun c => ?_)
      · replace k := k.1 c
        refine gx_iconst (v := 0) h dX0_move_31 (by decide) ?_
        exact gx_sub [2, 3, 4, 5, 6, 1, 0] rfl k
      · replace k := k.2 c
        refine gx_iconst (v := 1) h dX0_move_27 (by decide) ?_
        refine gx_goto (tgt := 32) h (by decide) dX0_move_28 ?_
        exact gx_sub [2, 3, 4, 5, 6, 1, 0] rfl k
    · refine Or.inr ⟨a11, rfl, ?_⟩
      refine gc_catchF h rfl q107 q109 [] ⟨0, 219, 220, 33⟩ [] rfl rfl rfl rfl k.1 ?_
      replace k := k.2
      exact gx_sub [1] rfl k
  · refine Or.inr ⟨a2, rfl, ?_⟩
    refine gc_catchF h rfl q107 q109 [] ⟨0, 219, 220, 33⟩ [] rfl rfl rfl rfl k.1 ?_
    replace k := k.2
    exact gx_sub [0] rfl k
theorem bc_X0_move_32 {θ : gc_T} {K : gx_K} {P : Int32 → gc_S → Prop} {σ : gc_S} {x1 x2 x3 x4 s0 : Int32} {x5 x6 s1 : Option Nat} {a0 n c s bc bs : Nat} (h : gc_K θ K (nX0_move (n + 1) c s)) (k : ∃ a34_1 : Nat, s1 = some a34_1 ∧ gc_is σ a34_1 0 ∧ gx_C (gc_O θ) (nX0_need n) (.ref a34_1 :: [.int s0, .int (-7)]) σ (gc_Qv (fun σ34 => gc_is σ34 a0 0 ∧ gx_C (gc_O θ) (nX0_node_2 n) (.ref a0 :: [va_rf x5, .int x3]) σ34 (gc_Qr (fun r41 σ41 => ∃ a49_2 : Nat, r41 = some a49_2 ∧ gc_isN σ41 a49_2 ∧ vC_bears θ n σ41 a49_2 [] (gc_Pi (fun r49 σ49 => gc_is σ49 a0 0 ∧ gx_C (gc_O θ) (nX0_need n) (.ref a0 :: [.int r49, .int (-3)]) σ49 (gc_Qv (fun σ54 => gc_isN σ54 a49_2 ∧ ∃ a65_3 : Nat, x6 = some a65_3 ∧ gc_isN σ54 a65_3 ∧ (((gc_I σ54 806 a49_2) < (gc_I σ54 807 a65_3) → gc_G θ K (nX0_move (n + 1) c s) (gc_Pi P) 84 [(0, va_rf (some a0)), (1, .int x1), (2, .int x2), (3, .int x3), (4, .int x4), (5, va_rf x5), (6, va_rf x6)] [va_rf (some a0)] σ54 bc bs) ∧ (¬ (gc_I σ54 806 a49_2) < (gc_I σ54 807 a65_3) → gc_isN σ54 a49_2 ∧ gc_isN σ54 a65_3 ∧ (((gc_I σ54 806 a49_2) ≤ (gc_I σ54 806 a65_3) → gc_G θ K (nX0_move (n + 1) c s) (gc_Pi P) 89 [(0, va_rf (some a0)), (1, .int x1), (2, .int x2), (3, .int x3), (4, .int x4), (5, va_rf x5), (6, va_rf x6)] [.int 0, va_rf (some a0)] σ54 bc bs) ∧ (¬ (gc_I σ54 806 a49_2) ≤ (gc_I σ54 806 a65_3) → gc_G θ K (nX0_move (n + 1) c s) (gc_Pi P) 84 [(0, va_rf (some a0)), (1, .int x1), (2, .int x2), (3, .int x3), (4, .int x4), (5, va_rf x5), (6, va_rf x6)] [va_rf (some a0)] σ54 bc bs))))) (fun a54 σ54 => gc_is σ54 a54 1 ∧ gc_G θ K (nX0_move (n + 1) c s) (gc_Pi P) 220 [(0, va_rf (some a0))] [va_rf (some a54)] σ54 bc bs))))) (fun a41 σ41 => gc_is σ41 a41 1 ∧ gc_G θ K (nX0_move (n + 1) c s) (gc_Pi P) 220 [(0, va_rf (some a0))] [va_rf (some a41)] σ41 bc bs))) (fun a34 σ34 => gc_is σ34 a34 1 ∧ gc_G θ K (nX0_move (n + 1) c s) (gc_Pi P) 220 [(0, va_rf (some a0))] [va_rf (some a34)] σ34 bc bs))) : gc_G θ K (nX0_move (n + 1) c s) (gc_Pi P) 32 [(0, va_rf (some a0)), (1, .int x1), (2, .int x2), (3, .int x3), (4, .int x4), (5, va_rf x5), (6, va_rf x6)] [.int s0, va_rf s1] σ bc bs := by
  refine gx_bipush (v := (-7)) h dX0_move_32 (by decide) ?_
  obtain ⟨a34_1, e34_1, k⟩ := k
  refine gcc_X0_131 (r := s1) (a0 := s0) (a1 := (-7)) h rfl ⟨Nat.le_refl _, Nat.le_refl _⟩ e34_1 k.1 (Nat.le_of_ble_eq_true rfl) dX0_move_34 (gx_C.mono k.2 ?_)
  rintro o σ34 (⟨rfl, k⟩ | ⟨a34, rfl, k⟩)
  · refine Or.inl ⟨rfl, ?_⟩
    refine gx_aload_nq (r := some a0) h 0 rfl dX0_move_37 ?_
    refine gx_aloadq (r := x5) h 5 rfl dX0_move_38 ?_
    refine gx_iload_n h 3 rfl dX0_move_40 ?_
    refine gcc_X0_214 (r := some a0) (a0 := x5) (a1 := x3) h rfl ⟨Nat.le_refl _, Nat.le_refl _⟩ rfl k.1 (Nat.le_of_ble_eq_true rfl) dX0_move_41 (gx_C.mono k.2 ?_)
    rintro o σ41 (⟨r41, rfl, k⟩ | ⟨a41, rfl, k⟩)
    · refine Or.inl ⟨r41, rfl, ?_⟩
      refine gx_astoreq (r := r41) (L' := [(7, va_rf r41), (0, va_rf (some a0)), (1, .int x1), (2, .int x2), (3, .int x3), (4, .int x4), (5, va_rf x5), (6, va_rf x6)]) h (Nat.le_of_ble_eq_true rfl) (by generalize x6 = z; cases z <;> rfl) dX0_move_44 ?_
      refine gx_aload_nq (r := some a0) h 1 rfl dX0_move_46 ?_
      refine gx_aloadq (r := r41) h 0 rfl dX0_move_47 ?_
      obtain ⟨a49_2, e49_2, k⟩ := k
      refine gcc_X0_232 (r := r41)  h rfl ⟨Nat.le_refl _, Nat.le_refl _⟩ e49_2 k.1 (Nat.le_of_ble_eq_true rfl) dX0_move_49 (vC_bears_mono k.2 ?_)
      rintro _ σ49 ⟨r49, rfl, k⟩
      refine ⟨r49, rfl, ?_⟩
      refine gx_bipush (v := (-3)) h dX0_move_52 (by decide) ?_
      refine gcc_X0_131 (r := some a0) (a0 := r49) (a1 := (-3)) h rfl ⟨Nat.le_refl _, Nat.le_refl _⟩ rfl k.1 (Nat.le_of_ble_eq_true rfl) dX0_move_54 (gx_C.mono k.2 ?_)
      rintro o σ54 (⟨rfl, k⟩ | ⟨a54, rfl, k⟩)
      · refine Or.inl ⟨rfl, ?_⟩
        refine gx_aload_nq (r := some a0) h 1 rfl dX0_move_57 ?_
        refine gx_aloadq (r := r41) h 0 rfl dX0_move_58 ?_
        refine gcg_X0_195 h rfl e49_2 k.1 dX0_move_60 ?_
        replace k := k.2
        refine gx_aloadq (r := x6) h 7 rfl dX0_move_63 ?_
        obtain ⟨a65_3, e65_3, k⟩ := k
        refine gcg_X0_198 h rfl e65_3 k.1 dX0_move_65 ?_
        replace k := k.2
        refine gx_icmp_lt (tgt := 84) h (by decide) dX0_move_68 (fun c => ?_) (fun c => ?_)
        · replace k := k.1 c
          exact gx_sub [1, 2, 3, 4, 5, 6, 7] rfl k
        · replace k := k.2 c
          refine gx_aloadq (r := r41) h 0 rfl dX0_move_71 ?_
          refine gcg_X0_195 h rfl e49_2 k.1 dX0_move_73 ?_
          replace k := k.2
          refine gx_aloadq (r := x6) h 7 rfl dX0_move_76 ?_
          refine gcg_X0_195 h rfl e65_3 k.1 dX0_move_78 ?_
          replace k := k.2
          refine gx_icmp_le (tgt := 88) h (by decide) dX0_move_81 (fun c => ?_) (fun c => ?_)
          · replace k := k.1 c
            refine gx_iconst (v := 0) h dX0_move_88 (by decide) ?_
            exact gx_sub [1, 2, 3, 4, 5, 6, 7] rfl k
          · replace k := k.2 c
            exact gx_sub [1, 2, 3, 4, 5, 6, 7] rfl k
      · refine Or.inr ⟨a54, rfl, ?_⟩
        refine gc_catchF h rfl q107 q109 [] ⟨0, 219, 220, 33⟩ [] rfl rfl rfl rfl k.1 ?_
        replace k := k.2
        exact gx_sub [1] rfl k
    · refine Or.inr ⟨a41, rfl, ?_⟩
      refine gc_catchF h rfl q107 q109 [] ⟨0, 219, 220, 33⟩ [] rfl rfl rfl rfl k.1 ?_
      replace k := k.2
      exact gx_sub [0] rfl k
  · refine Or.inr ⟨a34, rfl, ?_⟩
    refine gc_catchF h rfl q107 q109 [] ⟨0, 219, 220, 33⟩ [] rfl rfl rfl rfl k.1 ?_
    replace k := k.2
    exact gx_sub [0] rfl k
theorem bc_X0_move_84 {θ : gc_T} {K : gx_K} {P : Int32 → gc_S → Prop} {σ : gc_S} {x1 x2 x3 x4 : Int32} {x5 x6 s0 : Option Nat} {a0 n c s bc bs : Nat} (h : gc_K θ K (nX0_move (n + 1) c s)) (k : gc_G θ K (nX0_move (n + 1) c s) (gc_Pi P) 89 [(0, va_rf (some a0)), (1, .int x1), (2, .int x2), (3, .int x3), (4, .int x4), (5, va_rf x5), (6, va_rf x6)] [.int 1, va_rf s0] σ bc bs) : gc_G θ K (nX0_move (n + 1) c s) (gc_Pi P) 84 [(0, va_rf (some a0)), (1, .int x1), (2, .int x2), (3, .int x3), (4, .int x4), (5, va_rf x5), (6, va_rf x6)] [va_rf s0] σ bc bs := by
  refine gx_iconst (v := 1) h dX0_move_84 (by decide) ?_
  refine gx_goto (tgt := 89) h (by decide) dX0_move_85 ?_
  exact k
theorem bc_X0_move_89 {θ : gc_T} {K : gx_K} {P : Int32 → gc_S → Prop} {σ : gc_S} {x1 x2 x3 x4 s0 : Int32} {x5 x6 s1 : Option Nat} {a0 n c s bc bs : Nat} (h : gc_K θ K (nX0_move (n + 1) c s)) (k : ∃ a91_1 : Nat, s1 = some a91_1 ∧ gc_is σ a91_1 0 ∧ gx_C (gc_O θ) (nX0_need n) (.ref a91_1 :: [.int s0, .int (-7)]) σ (gc_Qv (fun σ91 => ∃ a96_2 : Nat, x5 = some a96_2 ∧ ∃ c96 s96 : Nat, (c96 ≤ bc ∧ s96 ≤ bs) ∧ gc_is σ91 a96_2 7 ∧ gx_C (gc_O θ) (nX8_copy n c96 s96) (.ref a96_2 :: []) σ91 (gc_Pr (fun r96 σ96 => ∃ a104_3 : Nat, r96 = some a104_3 ∧ gc_is σ96 a104_3 7 ∧ gx_C (gc_O θ) (nX8_find n) (.ref a104_3 :: [.int x2]) σ96 (gc_Pr (fun r104 σ104 => gc_is σ104 a104_3 7 ∧ gx_C (gc_O θ) (nX8_find n) (.ref a104_3 :: [.int x3]) σ104 (gc_Pr (fun r112 σ112 => ∃ a119_4 : Nat, r104 = some a119_4 ∧ gc_isN σ112 a119_4 ∧ ∃ a122_5 : Nat, gc_R σ112 803 a119_4 = some a122_5 ∧ gc_isN σ112 a122_5 ∧ ∃ a127_6 : Nat, gc_R σ112 804 a122_5 = some a127_6 ∧ gc_is σ112 a127_6 12 ∧ gx_C (gc_O θ) (nJ5_remove_2 n) (.ref a127_6 :: [va_rf r104]) σ112 (gc_Pi (fun r127 σ127 => ((x4 < 0 → gc_G θ K (nX0_move (n + 1) c s) (gc_Pi P) 154 [(0, va_rf (some a0)), (1, .int x1), (4, .int x4), (6, va_rf x6), (8, va_rf r96), (9, va_rf r104), (10, va_rf r112)] [va_rf (some a0)] σ127 (bc - c96) (bs - s96)) ∧ (¬ x4 < 0 → ∃ a141_7 : Nat, r112 = some a141_7 ∧ gc_isN σ127 a141_7 ∧ ∃ a144_8 : Nat, gc_R σ127 804 a141_7 = some a144_8 ∧ gc_is σ127 a144_8 12 ∧ gx_C (gc_O θ) (nJ5_size n) (.ref a144_8 :: []) σ127 (gc_Pi (fun r144 σ144 => ((r144 < x4 → gc_G θ K (nX0_move (n + 1) c s) (gc_Pi P) 154 [(0, va_rf (some a0)), (1, .int x1), (4, .int x4), (6, va_rf x6), (8, va_rf r96), (9, va_rf r104), (10, va_rf r112)] [va_rf (some a0)] σ144 (bc - c96) (bs - s96)) ∧ (¬ r144 < x4 → gc_G θ K (nX0_move (n + 1) c s) (gc_Pi P) 155 [(0, va_rf (some a0)), (1, .int x1), (4, .int x4), (6, va_rf x6), (8, va_rf r96), (9, va_rf r104), (10, va_rf r112)] [.int 1, va_rf (some a0)] σ144 (bc - c96) (bs - s96)))))))))))))))) (fun a91 σ91 => gc_is σ91 a91 1 ∧ gc_G θ K (nX0_move (n + 1) c s) (gc_Pi P) 220 [(0, va_rf (some a0))] [va_rf (some a91)] σ91 bc bs))) : gc_G θ K (nX0_move (n + 1) c s) (gc_Pi P) 89 [(0, va_rf (some a0)), (1, .int x1), (2, .int x2), (3, .int x3), (4, .int x4), (5, va_rf x5), (6, va_rf x6)] [.int s0, va_rf s1] σ bc bs := by
  refine gx_bipush (v := (-7)) h dX0_move_89 (by decide) ?_
  obtain ⟨a91_1, e91_1, k⟩ := k
  refine gcc_X0_131 (r := s1) (a0 := s0) (a1 := (-7)) h rfl ⟨Nat.le_refl _, Nat.le_refl _⟩ e91_1 k.1 (Nat.le_of_ble_eq_true rfl) dX0_move_91 (gx_C.mono k.2 ?_)
  rintro o σ91 (⟨rfl, k⟩ | ⟨a91, rfl, k⟩)
  · refine Or.inl ⟨rfl, ?_⟩
    refine gx_aloadq (r := x5) h 5 rfl dX0_move_94 ?_
    obtain ⟨a96_2, e96_2, k⟩ := k
    obtain ⟨c96, s96, hb96, k⟩ := k
    refine gcc_X0_173 (r := x5)  h rfl ⟨Nat.le_refl _, Nat.le_refl _⟩ hb96 e96_2 k.1 (Nat.le_of_ble_eq_true rfl) dX0_move_96 (gx_C.mono k.2 ?_)
    rintro _ σ96 ⟨r96, rfl, k⟩
    refine ⟨r96, rfl, ?_⟩
    refine gx_astoreq (r := r96) (L' := [(8, va_rf r96), (0, va_rf (some a0)), (1, .int x1), (2, .int x2), (3, .int x3), (4, .int x4), (5, va_rf x5), (6, va_rf x6)]) h (Nat.le_of_ble_eq_true rfl) rfl dX0_move_99 ?_
    refine gx_aloadq (r := r96) h 0 rfl dX0_move_101 ?_
    refine gx_iload_n h 3 rfl dX0_move_103 ?_
    obtain ⟨a104_3, e104_3, k⟩ := k
    refine gcc_X0_127 (r := r96) (a0 := x2) h rfl ⟨Nat.le_refl _, Nat.le_refl _⟩ e104_3 k.1 (Nat.le_of_ble_eq_true rfl) dX0_move_104 (gx_C.mono k.2 ?_)
    rintro _ σ104 ⟨r104, rfl, k⟩
    refine ⟨r104, rfl, ?_⟩
    refine gx_astoreq (r := r104) (L' := [(9, va_rf r104), (8, va_rf r96), (0, va_rf (some a0)), (1, .int x1), (2, .int x2), (3, .int x3), (4, .int x4), (5, va_rf x5), (6, va_rf x6)]) h (Nat.le_of_ble_eq_true rfl) (by generalize r96 = z; cases z <;> rfl) dX0_move_107 ?_
    refine gx_aloadq (r := r96) h 1 rfl dX0_move_109 ?_
    refine gx_iload_n h 5 rfl dX0_move_111 ?_
    refine gcc_X0_127 (r := r96) (a0 := x3) h rfl ⟨Nat.le_refl _, Nat.le_refl _⟩ e104_3 k.1 (Nat.le_of_ble_eq_true rfl) dX0_move_112 (gx_C.mono k.2 ?_)
    rintro _ σ112 ⟨r112, rfl, k⟩
    refine ⟨r112, rfl, ?_⟩
    refine gx_astoreq (r := r112) (L' := [(10, va_rf r112), (9, va_rf r104), (8, va_rf r96), (0, va_rf (some a0)), (1, .int x1), (2, .int x2), (3, .int x3), (4, .int x4), (5, va_rf x5), (6, va_rf x6)]) h (Nat.le_of_ble_eq_true rfl) (by generalize r104 = z; cases z <;> rfl) dX0_move_115 ?_
    refine gx_aloadq (r := r104) h 1 rfl dX0_move_117 ?_
    obtain ⟨a119_4, e119_4, k⟩ := k
    refine gcg_X0_192 h rfl e119_4 k.1 dX0_move_119 ?_
    replace k := k.2
    obtain ⟨a122_5, e122_5, k⟩ := k
    refine gcg_X0_181 h rfl e122_5 k.1 dX0_move_122 ?_
    replace k := k.2
    refine gx_aloadq (r := r104) h 1 rfl dX0_move_125 ?_
    obtain ⟨a127_6, e127_6, k⟩ := k
    refine gcc_X0_262 (r := gc_R σ112 804 a122_5) (a0 := r104) h rfl ⟨Nat.le_refl _, Nat.le_refl _⟩ e127_6 k.1 (Nat.le_of_ble_eq_true rfl) dX0_move_127 (gx_C.mono k.2 ?_)
    rintro _ σ127 ⟨r127, rfl, k⟩
    refine ⟨r127, rfl, ?_⟩
    refine gx_pop h rfl dX0_move_130 ?_
    refine gx_aload_nq (r := some a0) h 3 rfl dX0_move_131 ?_
    refine gx_iload h 7 rfl dX0_move_132 ?_
    refine gx_if_lt (tgt := 154) h (by decide) dX0_move_134 (fun c => ?_) (fun c => ?_)
    · replace k := k.1 c
      exact gx_sub [3, 4, 7, 9, 2, 1, 0] rfl k
    · replace k := k.2 c
      refine gx_iload h 7 rfl dX0_move_137 ?_
      refine gx_aloadq (r := r112) h 0 rfl dX0_move_139 ?_
      obtain ⟨a141_7, e141_7, k⟩ := k
      refine gcg_X0_181 h rfl e141_7 k.1 dX0_move_141 ?_
      replace k := k.2
      obtain ⟨a144_8, e144_8, k⟩ := k
      refine gcc_X0_185 (r := gc_R σ127 804 a141_7)  h rfl ⟨Nat.le_refl _, Nat.le_refl _⟩ e144_8 k.1 (Nat.le_of_ble_eq_true rfl) dX0_move_144 (gx_C.mono k.2 ?_)
      rintro _ σ144 ⟨r144, rfl, k⟩
      refine ⟨r144, rfl, ?_⟩
      refine gx_icmp_gt (tgt := 154) h (by decide) dX0_move_147 (fun c => ?_) (fun c => ?_)
      · replace k := k.1 c
        exact gx_sub [3, 4, 7, 9, 2, 1, 0] rfl k
      · replace k := k.2 c
        refine gx_iconst (v := 1) h dX0_move_150 (by decide) ?_
        refine gx_goto (tgt := 155) h (by decide) dX0_move_151 ?_
        exact gx_sub [3, 4, 7, 9, 2, 1, 0] rfl k
  · refine Or.inr ⟨a91, rfl, ?_⟩
    refine gc_catchF h rfl q107 q109 [] ⟨0, 219, 220, 33⟩ [] rfl rfl rfl rfl k.1 ?_
    replace k := k.2
    exact gx_sub [0] rfl k
theorem bc_X0_move_154 {θ : gc_T} {K : gx_K} {P : Int32 → gc_S → Prop} {σ : gc_S} {x1 x4 : Int32} {x6 x8 x9 x10 s0 : Option Nat} {a0 n c s bc bs : Nat} (h : gc_K θ K (nX0_move (n + 1) c s)) (k : gc_G θ K (nX0_move (n + 1) c s) (gc_Pi P) 155 [(0, va_rf (some a0)), (1, .int x1), (4, .int x4), (6, va_rf x6), (8, va_rf x8), (9, va_rf x9), (10, va_rf x10)] [.int 0, va_rf s0] σ bc bs) : gc_G θ K (nX0_move (n + 1) c s) (gc_Pi P) 154 [(0, va_rf (some a0)), (1, .int x1), (4, .int x4), (6, va_rf x6), (8, va_rf x8), (9, va_rf x9), (10, va_rf x10)] [va_rf s0] σ bc bs := by
  refine gx_iconst (v := 0) h dX0_move_154 (by decide) ?_
  exact k
theorem bc_X0_move_155 {θ : gc_T} {K : gx_K} {P : Int32 → gc_S → Prop} {σ : gc_S} {x1 x4 s0 : Int32} {x6 x8 x9 x10 s1 : Option Nat} {a0 n c s bc bs : Nat} (h : gc_K θ K (nX0_move (n + 1) c s)) (k : ∃ a156_1 : Nat, s1 = some a156_1 ∧ gc_is σ a156_1 0 ∧ gx_C (gc_O θ) (nX0_need n) (.ref a156_1 :: [.int s0, .int (-1)]) σ (gc_Qv (fun σ156 => ∃ a165_2 : Nat, x10 = some a165_2 ∧ ∃ c165 s165 : Nat, (c165 ≤ bc ∧ s165 ≤ bs) ∧ gc_isN σ156 a165_2 ∧ vC_add_2 θ n c165 s165 σ156 a165_2 [.int x4, va_rf x9] (gc_Pv (fun σ165 => ∃ a171_3 : Nat, x8 = some a171_3 ∧ gc_is σ165 a171_3 7 ∧ gx_C (gc_O θ) (nX8_number n) (.ref a171_3 :: []) σ165 (gc_Pi (fun r171 σ171 => gc_is σ171 a0 0 ∧ gx_C (gc_O θ) (nX0_need n) (.ref a0 :: [.int r171, .int (-5)]) σ171 (gc_Qv (fun σ176 => gc_isN σ176 a165_2 ∧ vC_clashes θ n σ176 a165_2 [] (gc_Pi (fun r182 σ182 => ((r182 = 0 → gc_G θ K (nX0_move (n + 1) c s) (gc_Pi P) 193 [(0, va_rf (some a0)), (1, .int x1), (6, va_rf x6), (8, va_rf x8)] [.int 1, va_rf (some a0)] σ182 (bc - c165) (bs - s165)) ∧ (¬ r182 = 0 → gc_G θ K (nX0_move (n + 1) c s) (gc_Pi P) 193 [(0, va_rf (some a0)), (1, .int x1), (6, va_rf x6), (8, va_rf x8)] [.int 0, va_rf (some a0)] σ182 (bc - c165) (bs - s165)))))) (fun a176 σ176 => gc_is σ176 a176 1 ∧ gc_G θ K (nX0_move (n + 1) c s) (gc_Pi P) 220 [(0, va_rf (some a0))] [va_rf (some a176)] σ176 (bc - c165) (bs - s165)))))))) (fun a156 σ156 => gc_is σ156 a156 1 ∧ gc_G θ K (nX0_move (n + 1) c s) (gc_Pi P) 220 [(0, va_rf (some a0))] [va_rf (some a156)] σ156 bc bs))) : gc_G θ K (nX0_move (n + 1) c s) (gc_Pi P) 155 [(0, va_rf (some a0)), (1, .int x1), (4, .int x4), (6, va_rf x6), (8, va_rf x8), (9, va_rf x9), (10, va_rf x10)] [.int s0, va_rf s1] σ bc bs := by
  refine gx_iconst (v := (-1)) h dX0_move_155 (by decide) ?_
  obtain ⟨a156_1, e156_1, k⟩ := k
  refine gcc_X0_131 (r := s1) (a0 := s0) (a1 := (-1)) h rfl ⟨Nat.le_refl _, Nat.le_refl _⟩ e156_1 k.1 (Nat.le_of_ble_eq_true rfl) dX0_move_156 (gx_C.mono k.2 ?_)
  rintro o σ156 (⟨rfl, k⟩ | ⟨a156, rfl, k⟩)
  · refine Or.inl ⟨rfl, ?_⟩
    refine gx_aloadq (r := x10) h 6 rfl dX0_move_159 ?_
    refine gx_iload h 2 rfl dX0_move_161 ?_
    refine gx_aloadq (r := x9) h 5 rfl dX0_move_163 ?_
    obtain ⟨a165_2, e165_2, k⟩ := k
    obtain ⟨c165, s165, hb165, k⟩ := k
    refine gcc_X0_249 (r := x10) (a0 := x4) (a1 := x9) h rfl ⟨Nat.le_refl _, Nat.le_refl _⟩ hb165 e165_2 k.1 (Nat.le_of_ble_eq_true rfl) dX0_move_165 (vC_add_2_mono k.2 ?_)
    rintro _ σ165 ⟨rfl, k⟩
    refine ⟨rfl, ?_⟩
    refine gx_aload_nq (r := some a0) h 0 rfl dX0_move_168 ?_
    refine gx_aloadq (r := x8) h 4 rfl dX0_move_169 ?_
    obtain ⟨a171_3, e171_3, k⟩ := k
    refine gcc_X0_252 (r := x8)  h rfl ⟨Nat.le_refl _, Nat.le_refl _⟩ e171_3 k.1 (Nat.le_of_ble_eq_true rfl) dX0_move_171 (gx_C.mono k.2 ?_)
    rintro _ σ171 ⟨r171, rfl, k⟩
    refine ⟨r171, rfl, ?_⟩
    refine gx_bipush (v := (-5)) h dX0_move_174 (by decide) ?_
    refine gcc_X0_131 (r := some a0) (a0 := r171) (a1 := (-5)) h rfl ⟨Nat.le_refl _, Nat.le_refl _⟩ rfl k.1 (Nat.le_of_ble_eq_true rfl) dX0_move_176 (gx_C.mono k.2 ?_)
    rintro o σ176 (⟨rfl, k⟩ | ⟨a176, rfl, k⟩)
    · refine Or.inl ⟨rfl, ?_⟩
      refine gx_aload_nq (r := some a0) h 0 rfl dX0_move_179 ?_
      refine gx_aloadq (r := x10) h 6 rfl dX0_move_180 ?_
      refine gcc_X0_225 (r := x10)  h rfl ⟨Nat.le_refl _, Nat.le_refl _⟩ e165_2 k.1 (Nat.le_of_ble_eq_true rfl) dX0_move_182 (vC_clashes_mono k.2 ?_)
      rintro _ σ182 ⟨r182, rfl, k⟩
      refine ⟨r182, rfl, ?_⟩
      refine gx_if_ne (tgt := 192) h (by decide) dX0_move_185 (fun c => ?_) (fun c => ?_)
      · replace k := k.2 c
        refine gx_iconst (v := 0) h dX0_move_192 (by decide) ?_
        exact gx_sub [0, 1, 3, 4] rfl k
      · replace k := k.1 c
        refine gx_iconst (v := 1) h dX0_move_188 (by decide) ?_
        refine gx_goto (tgt := 193) h (by decide) dX0_move_189 ?_
        exact gx_sub [0, 1, 3, 4] rfl k
    · refine Or.inr ⟨a176, rfl, ?_⟩
      refine gc_catchF h rfl q107 q109 [] ⟨0, 219, 220, 33⟩ [] rfl rfl rfl rfl k.1 ?_
      replace k := k.2
      exact gx_sub [0] rfl k
  · refine Or.inr ⟨a156, rfl, ?_⟩
    refine gc_catchF h rfl q107 q109 [] ⟨0, 219, 220, 33⟩ [] rfl rfl rfl rfl k.1 ?_
    replace k := k.2
    exact gx_sub [0] rfl k
theorem bc_X0_move_193 {θ : gc_T} {K : gx_K} {P : Int32 → gc_S → Prop} {σ : gc_S} {x1 s0 : Int32} {x6 x8 s1 : Option Nat} {a0 n c s bc bs : Nat} (h : gc_K θ K (nX0_move (n + 1) c s)) (k : ∃ a195_1 : Nat, s1 = some a195_1 ∧ gc_is σ a195_1 0 ∧ gx_C (gc_O θ) (nX0_need n) (.ref a195_1 :: [.int s0, .int (-4)]) σ (gc_Qv (fun σ195 => gc_is σ195 a0 0 ∧ ∃ a205_2 : Nat, gc_R σ195 2 a0 = some a205_2 ∧ gc_is σ195 a205_2 19 ∧ vp_in x1 (gc_n σ195 a205_2) ∧ (∀ v, x8 = some v → gc_is σ195 v 7) ∧ ∀ σ205, σ205 = gc_sQ σ195 a205_2 x1.toNatClampNeg x8 → ∃ a208_3 : Nat, x6 = some a208_3 ∧ gc_isN σ205 a208_3 ∧ gc_isN σ205 a208_3 ∧ P (((gc_I σ205 806 a208_3) - (gc_I σ205 807 a208_3)) + 1) σ205) (fun a195 σ195 => gc_is σ195 a195 1 ∧ gc_G θ K (nX0_move (n + 1) c s) (gc_Pi P) 220 [(0, va_rf (some a0))] [va_rf (some a195)] σ195 bc bs))) : gc_G θ K (nX0_move (n + 1) c s) (gc_Pi P) 193 [(0, va_rf (some a0)), (1, .int x1), (6, va_rf x6), (8, va_rf x8)] [.int s0, va_rf s1] σ bc bs := by
  refine gx_bipush (v := (-4)) h dX0_move_193 (by decide) ?_
  obtain ⟨a195_1, e195_1, k⟩ := k
  refine gcc_X0_131 (r := s1) (a0 := s0) (a1 := (-4)) h rfl ⟨Nat.le_refl _, Nat.le_refl _⟩ e195_1 k.1 (Nat.le_of_ble_eq_true rfl) dX0_move_195 (gx_C.mono k.2 ?_)
  rintro o σ195 (⟨rfl, k⟩ | ⟨a195, rfl, k⟩)
  · refine Or.inl ⟨rfl, ?_⟩
    refine gx_aload_nq (r := some a0) h 0 rfl dX0_move_198 ?_
    refine gcg_X0_46 h rfl rfl k.1 dX0_move_199 ?_
    replace k := k.2
    refine gx_iload_n h 1 rfl dX0_move_202 ?_
    refine gx_aloadq (r := x8) h 3 rfl dX0_move_203 ?_
    obtain ⟨a205_2, e205_2, k⟩ := k
    refine gc_aast19E (r := gc_R σ195 2 a0) (w := x8) h e205_2 k.1 k.2.1 k.2.2.1 dX0_move_205 ?_
    generalize hz : gc_sQ σ195 a205_2 x1.toNatClampNeg x8 = σ205
    replace k := k.2.2.2 σ205 hz.symm
    refine gx_aloadq (r := x6) h 2 rfl dX0_move_206 ?_
    obtain ⟨a208_3, e208_3, k⟩ := k
    refine gcg_X0_195 h rfl e208_3 k.1 dX0_move_208 ?_
    replace k := k.2
    refine gx_aloadq (r := x6) h 2 rfl dX0_move_211 ?_
    refine gcg_X0_198 h rfl e208_3 k.1 dX0_move_213 ?_
    replace k := k.2
    refine gx_isub h dX0_move_216 ?_
    refine gx_iconst (v := 1) h dX0_move_217 (by decide) ?_
    refine gx_iadd h dX0_move_218 ?_
    exact gx_iret h rfl dX0_move_219 (⟨_, rfl, k⟩)
  · refine Or.inr ⟨a195, rfl, ?_⟩
    refine gc_catchF h rfl q107 q109 [] ⟨0, 219, 220, 33⟩ [] rfl rfl rfl rfl k.1 ?_
    replace k := k.2
    exact gx_sub [0] rfl k
theorem bc_X0_move_220 {θ : gc_T} {K : gx_K} {P : Int32 → gc_S → Prop} {σ : gc_S} {a0 s0 n c s bc bs : Nat} (h : gc_K θ K (nX0_move (n + 1) c s)) (k : gc_is σ a0 0 ∧ gx_C (gc_O θ) (nX0_finds n) (.ref a0 :: [va_rf (some s0)]) σ (gc_Pi (fun r225 σ225 => P r225 σ225))) : gc_G θ K (nX0_move (n + 1) c s) (gc_Pi P) 220 [(0, va_rf (some a0))] [va_rf (some s0)] σ bc bs := by
  refine gx_astoreq (r := some s0) (L' := [(5, va_rf (some s0)), (0, va_rf (some a0))]) h (Nat.le_of_ble_eq_true rfl) rfl dX0_move_220 ?_
  refine gx_aload_nq (r := some a0) h 1 rfl dX0_move_222 ?_
  refine gx_aloadq (r := some s0) h 0 rfl dX0_move_223 ?_
  refine gcc_X0_138 (r := some a0) (a0 := some s0) h rfl ⟨Nat.le_refl _, Nat.le_refl _⟩ rfl k.1 (Nat.le_of_ble_eq_true rfl) dX0_move_225 (gx_C.mono k.2 ?_)
  rintro _ σ225 ⟨r225, rfl, k⟩
  refine ⟨r225, rfl, ?_⟩
  exact gx_iret h rfl dX0_move_228 (⟨_, rfl, k⟩)
/-! X0.price -/
theorem ec_X0_price {θ : gc_T} {P : Int32 → gc_S → Prop} {σ : gc_S} {n : Nat} {a0 : Nat} {x1 : Int32} {x2 : Int32} (body : ∀ K, gc_K θ K (nX0_price (n + 1)) → gc_G θ K (nX0_price (n + 1)) (gc_Pi P) 0 [(0, va_rf (some a0)), (1, .int x1), (2, .int x2)] [] σ 0 0) : gx_C (gc_O θ) (nX0_price (n + 1)) [.ref a0, .int x1, .int x2] σ (gc_Pi P) :=
  gx_C.intro (gc_z_warm θ) rfl (Nat.le_of_ble_eq_true rfl) body
theorem bc_X0_price_0 {θ : gc_T} {K : gx_K} {P : Int32 → gc_S → Prop} {σ : gc_S} {x1 x2 : Int32} {a0 n bc bs : Nat} (h : gc_K θ K (nX0_price (n + 1))) (k : ((x1 < 0 → gc_G θ K (nX0_price (n + 1)) (gc_Pi P) 25 [(0, va_rf (some a0)), (1, .int x1), (2, .int x2)] [va_rf (some a0)] σ bc bs) ∧ (¬ x1 < 0 → ((4 ≤ x1 → gc_G θ K (nX0_price (n + 1)) (gc_Pi P) 25 [(0, va_rf (some a0)), (1, .int x1), (2, .int x2)] [va_rf (some a0)] σ bc bs) ∧ (¬ 4 ≤ x1 → ((x2 < 0 → gc_G θ K (nX0_price (n + 1)) (gc_Pi P) 25 [(0, va_rf (some a0)), (1, .int x1), (2, .int x2)] [va_rf (some a0)] σ bc bs) ∧ (¬ x2 < 0 → ((1000 < x2 → gc_G θ K (nX0_price (n + 1)) (gc_Pi P) 25 [(0, va_rf (some a0)), (1, .int x1), (2, .int x2)] [va_rf (some a0)] σ bc bs) ∧ (¬ 1000 < x2 → gc_G θ K (nX0_price (n + 1)) (gc_Pi P) 26 [(0, va_rf (some a0)), (1, .int x1), (2, .int x2)] [.int 1, va_rf (some a0)] σ bc bs))))))))) : gc_G θ K (nX0_price (n + 1)) (gc_Pi P) 0 [(0, va_rf (some a0)), (1, .int x1), (2, .int x2)] [] σ bc bs := by
  refine gx_aload_nq (r := some a0) h 0 rfl dX0_price_0 ?_
  refine gx_iload_n h 1 rfl dX0_price_1 ?_
  refine gx_if_lt (tgt := 25) h (by decide) dX0_price_2 (fun c => ?_) (fun c => ?_)
  · replace k := k.1 c
    exact k
  · replace k := k.2 c
    refine gx_iload_n h 1 rfl dX0_price_5 ?_
    refine gx_iconst (v := 4) h dX0_price_6 (by decide) ?_
    refine gx_icmp_ge (tgt := 25) h (by decide) dX0_price_7 (fun c => ?_) (fun c => ?_)
    · replace k := k.1 c
      exact k
    · replace k := k.2 c
      refine gx_iload_n h 2 rfl dX0_price_10 ?_
      refine gx_if_lt (tgt := 25) h (by decide) dX0_price_11 (fun c => ?_) (fun c => ?_)
      · replace k := k.1 c
        exact k
      · replace k := k.2 c
        refine gx_iload_n h 2 rfl dX0_price_14 ?_
        refine gx_sipush (v := 1000) h dX0_price_15 (by decide) ?_
        refine gx_icmp_gt (tgt := 25) h (by decide) dX0_price_18 (fun c => ?_) (fun c => ?_)
        · replace k := k.1 c
          exact k
        · replace k := k.2 c
          refine gx_iconst (v := 1) h dX0_price_21 (by decide) ?_
          refine gx_goto (tgt := 26) h (by decide) dX0_price_22 ?_
          exact k
theorem bc_X0_price_25 {θ : gc_T} {K : gx_K} {P : Int32 → gc_S → Prop} {σ : gc_S} {x1 x2 : Int32} {s0 : Option Nat} {a0 n bc bs : Nat} (h : gc_K θ K (nX0_price (n + 1))) (k : gc_G θ K (nX0_price (n + 1)) (gc_Pi P) 26 [(0, va_rf (some a0)), (1, .int x1), (2, .int x2)] [.int 0, va_rf s0] σ bc bs) : gc_G θ K (nX0_price (n + 1)) (gc_Pi P) 25 [(0, va_rf (some a0)), (1, .int x1), (2, .int x2)] [va_rf s0] σ bc bs := by
  refine gx_iconst (v := 0) h dX0_price_25 (by decide) ?_
  exact k
theorem bc_X0_price_26 {θ : gc_T} {K : gx_K} {P : Int32 → gc_S → Prop} {σ : gc_S} {x1 x2 s0 : Int32} {s1 : Option Nat} {a0 n bc bs : Nat} (h : gc_K θ K (nX0_price (n + 1))) (k : ∃ a27_1 : Nat, s1 = some a27_1 ∧ gc_is σ a27_1 0 ∧ gx_C (gc_O θ) (nX0_need n) (.ref a27_1 :: [.int s0, .int (-1)]) σ (gc_Qv (fun σ27 => gc_is σ27 a0 0 ∧ ∃ a34_2 : Nat, gc_R σ27 8 a0 = some a34_2 ∧ gc_is σ27 a34_2 4 ∧ ∃ a38_3 : Nat, gc_R σ27 400 a34_2 = some a38_3 ∧ gc_is σ27 a38_3 14 ∧ vp_in x1 (gc_n σ27 a38_3) ∧ ∀ x3_39 : Int32, x3_39 = gc_E σ27 a38_3 x1.toNatClampNeg → gc_is σ27 a0 0 ∧ gc_is σ27 a34_2 4 ∧ gc_is σ27 a38_3 14 ∧ vp_in x1 (gc_n σ27 a38_3) ∧ ∀ σ49, σ49 = gc_sE σ27 a38_3 x1.toNatClampNeg x2 → P x3_39 σ49) (fun a27 σ27 => gc_is σ27 a27 1 ∧ gc_G θ K (nX0_price (n + 1)) (gc_Pi P) 52 [(0, va_rf (some a0))] [va_rf (some a27)] σ27 bc bs))) : gc_G θ K (nX0_price (n + 1)) (gc_Pi P) 26 [(0, va_rf (some a0)), (1, .int x1), (2, .int x2)] [.int s0, va_rf s1] σ bc bs := by
  refine gx_iconst (v := (-1)) h dX0_price_26 (by decide) ?_
  obtain ⟨a27_1, e27_1, k⟩ := k
  refine gcc_X0_131 (r := s1) (a0 := s0) (a1 := (-1)) h rfl ⟨Nat.le_refl _, Nat.le_refl _⟩ e27_1 k.1 (Nat.le_of_ble_eq_true rfl) dX0_price_27 (gx_C.mono k.2 ?_)
  rintro o σ27 (⟨rfl, k⟩ | ⟨a27, rfl, k⟩)
  · refine Or.inl ⟨rfl, ?_⟩
    refine gx_aload_nq (r := some a0) h 0 rfl dX0_price_30 ?_
    refine gcg_X0_73 h rfl rfl k.1 dX0_price_31 ?_
    replace k := k.2
    obtain ⟨a34_2, e34_2, k⟩ := k
    refine gcg_X0_265 h rfl e34_2 k.1 dX0_price_34 ?_
    replace k := k.2
    refine gx_iload_n h 1 rfl dX0_price_37 ?_
    obtain ⟨a38_3, e38_3, k⟩ := k
    refine gc_ialdE (r := gc_R σ27 400 a34_2) h e38_3 k.1 k.2.1 dX0_price_38 ?_
    replace k := k.2.2
    generalize hz : (gc_E σ27 a38_3 x1.toNatClampNeg) = x3_39
    replace k := k x3_39 hz.symm
    refine gx_istore_n (L' := [(3, .int x3_39), (0, va_rf (some a0)), (1, .int x1), (2, .int x2)]) h (Nat.le_of_ble_eq_true rfl) rfl dX0_price_39 ?_
    refine gx_aload_nq (r := some a0) h 1 rfl dX0_price_40 ?_
    refine gcg_X0_73 h rfl rfl k.1 dX0_price_41 ?_
    replace k := k.2
    refine gcg_X0_265 h rfl e34_2 k.1 dX0_price_44 ?_
    replace k := k.2
    refine gx_iload_n h 2 rfl dX0_price_47 ?_
    refine gx_iload_n h 3 rfl dX0_price_48 ?_
    refine gc_iastE (r := gc_R σ27 400 a34_2) h e38_3 k.1 k.2.1 dX0_price_49 ?_
    generalize hz : gc_sE σ27 a38_3 x1.toNatClampNeg x2 = σ49
    replace k := k.2.2 σ49 hz.symm
    refine gx_iload_n h 0 rfl dX0_price_50 ?_
    exact gx_iret h rfl dX0_price_51 (⟨_, rfl, k⟩)
  · refine Or.inr ⟨a27, rfl, ?_⟩
    refine gc_catchF h rfl q107 q109 [] ⟨0, 51, 52, 33⟩ [] rfl rfl rfl rfl k.1 ?_
    replace k := k.2
    exact gx_sub [0] rfl k
theorem bc_X0_price_52 {θ : gc_T} {K : gx_K} {P : Int32 → gc_S → Prop} {σ : gc_S} {a0 s0 n bc bs : Nat} (h : gc_K θ K (nX0_price (n + 1))) (k : gc_is σ a0 0 ∧ gx_C (gc_O θ) (nX0_finds n) (.ref a0 :: [va_rf (some s0)]) σ (gc_Pi (fun r55 σ55 => P r55 σ55))) : gc_G θ K (nX0_price (n + 1)) (gc_Pi P) 52 [(0, va_rf (some a0))] [va_rf (some s0)] σ bc bs := by
  refine gx_astore_nq (r := some s0) (L' := [(3, va_rf (some s0)), (0, va_rf (some a0))]) h (Nat.le_of_ble_eq_true rfl) rfl dX0_price_52 ?_
  refine gx_aload_nq (r := some a0) h 1 rfl dX0_price_53 ?_
  refine gx_aload_nq (r := some s0) h 0 rfl dX0_price_54 ?_
  refine gcc_X0_138 (r := some a0) (a0 := some s0) h rfl ⟨Nat.le_refl _, Nat.le_refl _⟩ rfl k.1 (Nat.le_of_ble_eq_true rfl) dX0_price_55 (gx_C.mono k.2 ?_)
  rintro _ σ55 ⟨r55, rfl, k⟩
  refine ⟨r55, rfl, ?_⟩
  exact gx_iret h rfl dX0_price_58 (⟨_, rfl, k⟩)
