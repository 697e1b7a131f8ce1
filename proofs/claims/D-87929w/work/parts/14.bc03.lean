set_option maxRecDepth 100000
/-! X0.found -/
theorem ec_X0_found {θ : gc_T} {P : Int32 → gc_S → Prop} {σ : gc_S} {n : Nat} {a0 : Nat} {x1 : Int32} (body : ∀ K, gc_K θ K (nX0_found (n + 1)) → gc_G θ K (nX0_found (n + 1)) (gc_Pi P) 0 [(0, va_rf (some a0)), (1, .int x1)] [] σ 0 0) : gx_C (gc_O θ) (nX0_found (n + 1)) [.ref a0, .int x1] σ (gc_Pi P) :=
  gx_C.intro (gc_z_warm θ) rfl (Nat.le_of_ble_eq_true rfl) body
theorem bc_X0_found_0 {θ : gc_T} {K : gx_K} {P : Int32 → gc_S → Prop} {σ : gc_S} {x1 : Int32} {a0 n bc bs : Nat} (h : gc_K θ K (nX0_found (n + 1))) (k : (((-1) < x1 → gc_G θ K (nX0_found (n + 1)) (gc_Pi P) 12 [(0, va_rf (some a0)), (1, .int x1)] [va_rf (some a0)] σ bc bs) ∧ (¬ (-1) < x1 → (((-7) ≤ x1 → gc_is σ a0 0 ∧ gx_C (gc_O θ) (nX0_need n) (.ref a0 :: [.int 1, .int (-1)]) σ (gc_Qv (fun σ24 => gc_is σ24 a0 0 ∧ ∃ a33_1 : Nat, gc_R σ24 1 a0 = some a33_1 ∧ gc_is σ24 a33_1 14 ∧ vp_in (-x1) (gc_n σ24 a33_1) ∧ P (gc_E σ24 a33_1 (-x1).toNatClampNeg) σ24) (fun a24 σ24 => gc_is σ24 a24 1 ∧ gc_G θ K (nX0_found (n + 1)) (gc_Pi P) 35 [(0, va_rf (some a0))] [va_rf (some a24)] σ24 bc bs))) ∧ (¬ (-7) ≤ x1 → gc_G θ K (nX0_found (n + 1)) (gc_Pi P) 12 [(0, va_rf (some a0)), (1, .int x1)] [va_rf (some a0)] σ bc bs))))) : gc_G θ K (nX0_found (n + 1)) (gc_Pi P) 0 [(0, va_rf (some a0)), (1, .int x1)] [] σ bc bs := by
  refine gx_aload_nq (r := some a0) h 0 rfl dX0_found_0 ?_
  refine gx_iload_n h 1 rfl dX0_found_1 ?_
  refine gx_iconst (v := (-1)) h dX0_found_2 (by decide) ?_
  refine gx_icmp_gt (tgt := 12) h (by decide) dX0_found_3 (fun c => ?_) (fun c => ?_)
  · replace k := k.1 c
    exact k
  · replace k := k.2 c
    refine gx_iload_n h 1 rfl dX0_found_6 ?_
    refine gx_bipush (v := (-7)) h dX0_found_7 (by decide) ?_
    refine gx_icmp_ge (tgt := 18) h (by decide) dX0_found_9 (fun c => ?_) (fun c => ?_)
    · replace k := k.1 c
      refine gx_iconst (v := 1) h dX0_found_18 (by decide) ?_
      refine gx_goto (tgt := 23) h (by decide) dX0_found_19 ?_
      refine gx_iconst (v := (-1)) h dX0_found_23 (by decide) ?_
      refine gcc_X0_131 (r := some a0) (a0 := 1) (a1 := (-1)) h rfl ⟨Nat.le_refl _, Nat.le_refl _⟩ rfl k.1 (Nat.le_of_ble_eq_true rfl) dX0_found_24 (gx_C.mono k.2 ?_)
      rintro o σ24 (⟨rfl, k⟩ | ⟨a24, rfl, k⟩)
      · refine Or.inl ⟨rfl, ?_⟩
        refine gx_aload_nq (r := some a0) h 0 rfl dX0_found_27 ?_
        refine gcg_X0_40 h rfl rfl k.1 dX0_found_28 ?_
        replace k := k.2
        refine gx_iload_n h 1 rfl dX0_found_31 ?_
        refine gx_ineg h dX0_found_32 ?_
        obtain ⟨a33_1, e33_1, k⟩ := k
        refine gc_ialdE (r := gc_R σ24 1 a0) h e33_1 k.1 k.2.1 dX0_found_33 ?_
        replace k := k.2.2
        exact gx_iret h rfl dX0_found_34 (⟨_, rfl, k⟩)
      · refine Or.inr ⟨a24, rfl, ?_⟩
        refine gc_catchF h rfl q107 q109 [] ⟨0, 34, 35, 33⟩ [] rfl rfl rfl rfl k.1 ?_
        replace k := k.2
        exact gx_sub [0] rfl k
    · replace k := k.2 c
      exact k
theorem bc_X0_found_12 {θ : gc_T} {K : gx_K} {P : Int32 → gc_S → Prop} {σ : gc_S} {x1 : Int32} {s0 : Option Nat} {a0 n bc bs : Nat} (h : gc_K θ K (nX0_found (n + 1))) (k : ((x1 = (-9) → ∃ a24_3 : Nat, s0 = some a24_3 ∧ gc_is σ a24_3 0 ∧ gx_C (gc_O θ) (nX0_need n) (.ref a24_3 :: [.int 1, .int (-1)]) σ (gc_Qv (fun σ24 => gc_is σ24 a0 0 ∧ ∃ a33_4 : Nat, gc_R σ24 1 a0 = some a33_4 ∧ gc_is σ24 a33_4 14 ∧ vp_in (-x1) (gc_n σ24 a33_4) ∧ P (gc_E σ24 a33_4 (-x1).toNatClampNeg) σ24) (fun a24 σ24 => gc_is σ24 a24 1 ∧ gc_G θ K (nX0_found (n + 1)) (gc_Pi P) 35 [(0, va_rf (some a0))] [va_rf (some a24)] σ24 bc bs))) ∧ (¬ x1 = (-9) → ∃ a24_1 : Nat, s0 = some a24_1 ∧ gc_is σ a24_1 0 ∧ gx_C (gc_O θ) (nX0_need n) (.ref a24_1 :: [.int 0, .int (-1)]) σ (gc_Qv (fun σ24 => gc_is σ24 a0 0 ∧ ∃ a33_2 : Nat, gc_R σ24 1 a0 = some a33_2 ∧ gc_is σ24 a33_2 14 ∧ vp_in (-x1) (gc_n σ24 a33_2) ∧ P (gc_E σ24 a33_2 (-x1).toNatClampNeg) σ24) (fun a24 σ24 => gc_is σ24 a24 1 ∧ gc_G θ K (nX0_found (n + 1)) (gc_Pi P) 35 [(0, va_rf (some a0))] [va_rf (some a24)] σ24 bc bs))))) : gc_G θ K (nX0_found (n + 1)) (gc_Pi P) 12 [(0, va_rf (some a0)), (1, .int x1)] [va_rf s0] σ bc bs := by
  refine gx_iload_n h 1 rfl dX0_found_12 ?_
  refine gx_bipush (v := (-9)) h dX0_found_13 (by decide) ?_
  refine gx_icmp_ne (tgt := 22) h (by decide) dX0_found_15 (fun c => ?_) (fun c => ?_)
  · replace k := k.2 c
    refine gx_iconst (v := 0) h dX0_found_22 (by decide) ?_
    refine gx_iconst (v := (-1)) h dX0_found_23 (by decide) ?_
    obtain ⟨a24_1, e24_1, k⟩ := k
    refine gcc_X0_131 (r := s0) (a0 := 0) (a1 := (-1)) h rfl ⟨Nat.le_refl _, Nat.le_refl _⟩ e24_1 k.1 (Nat.le_of_ble_eq_true rfl) dX0_found_24 (gx_C.mono k.2 ?_)
    rintro o σ24 (⟨rfl, k⟩ | ⟨a24, rfl, k⟩)
    · refine Or.inl ⟨rfl, ?_⟩
      refine gx_aload_nq (r := some a0) h 0 rfl dX0_found_27 ?_
      refine gcg_X0_40 h rfl rfl k.1 dX0_found_28 ?_
      replace k := k.2
      refine gx_iload_n h 1 rfl dX0_found_31 ?_
      refine gx_ineg h dX0_found_32 ?_
      obtain ⟨a33_2, e33_2, k⟩ := k
      refine gc_ialdE (r := gc_R σ24 1 a0) h e33_2 k.1 k.2.1 dX0_found_33 ?_
      replace k := k.2.2
      exact gx_iret h rfl dX0_found_34 (⟨_, rfl, k⟩)
    · refine Or.inr ⟨a24, rfl, ?_⟩
      refine gc_catchF h rfl q107 q109 [] ⟨0, 34, 35, 33⟩ [] rfl rfl rfl rfl k.1 ?_
      replace k := k.2
      exact gx_sub [0] rfl k
  · replace k := k.1 c
    refine gx_iconst (v := 1) h dX0_found_18 (by decide) ?_
    refine gx_goto (tgt := 23) h (by decide) dX0_found_19 ?_
    refine gx_iconst (v := (-1)) h dX0_found_23 (by decide) ?_
    obtain ⟨a24_3, e24_3, k⟩ := k
    refine gcc_X0_131 (r := s0) (a0 := 1) (a1 := (-1)) h rfl ⟨Nat.le_refl _, Nat.le_refl _⟩ e24_3 k.1 (Nat.le_of_ble_eq_true rfl) dX0_found_24 (gx_C.mono k.2 ?_)
    rintro o σ24 (⟨rfl, k⟩ | ⟨a24, rfl, k⟩)
    · refine Or.inl ⟨rfl, ?_⟩
      refine gx_aload_nq (r := some a0) h 0 rfl dX0_found_27 ?_
      refine gcg_X0_40 h rfl rfl k.1 dX0_found_28 ?_
      replace k := k.2
      refine gx_iload_n h 1 rfl dX0_found_31 ?_
      refine gx_ineg h dX0_found_32 ?_
      obtain ⟨a33_4, e33_4, k⟩ := k
      refine gc_ialdE (r := gc_R σ24 1 a0) h e33_4 k.1 k.2.1 dX0_found_33 ?_
      replace k := k.2.2
      exact gx_iret h rfl dX0_found_34 (⟨_, rfl, k⟩)
    · refine Or.inr ⟨a24, rfl, ?_⟩
      refine gc_catchF h rfl q107 q109 [] ⟨0, 34, 35, 33⟩ [] rfl rfl rfl rfl k.1 ?_
      replace k := k.2
      exact gx_sub [0] rfl k
theorem bc_X0_found_35 {θ : gc_T} {K : gx_K} {P : Int32 → gc_S → Prop} {σ : gc_S} {a0 s0 n bc bs : Nat} (h : gc_K θ K (nX0_found (n + 1))) (k : gc_is σ a0 0 ∧ gx_C (gc_O θ) (nX0_finds n) (.ref a0 :: [va_rf (some s0)]) σ (gc_Pi (fun r38 σ38 => P r38 σ38))) : gc_G θ K (nX0_found (n + 1)) (gc_Pi P) 35 [(0, va_rf (some a0))] [va_rf (some s0)] σ bc bs := by
  refine gx_astore_nq (r := some s0) (L' := [(2, va_rf (some s0)), (0, va_rf (some a0))]) h (Nat.le_of_ble_eq_true rfl) rfl dX0_found_35 ?_
  refine gx_aload_nq (r := some a0) h 1 rfl dX0_found_36 ?_
  refine gx_aload_nq (r := some s0) h 0 rfl dX0_found_37 ?_
  refine gcc_X0_138 (r := some a0) (a0 := some s0) h rfl ⟨Nat.le_refl _, Nat.le_refl _⟩ rfl k.1 (Nat.le_of_ble_eq_true rfl) dX0_found_38 (gx_C.mono k.2 ?_)
  rintro _ σ38 ⟨r38, rfl, k⟩
  refine ⟨r38, rfl, ?_⟩
  exact gx_iret h rfl dX0_found_41 (⟨_, rfl, k⟩)
/-! X1.init -/
theorem ec_X1_init {θ : gc_T} {P : gc_S → Prop} {σ : gc_S} {n : Nat} {a0 : Nat} (body : ∀ K, gc_K θ K (nX1_init (n + 1)) → gc_G θ K (nX1_init (n + 1)) (gc_Pv P) 0 [(0, va_rf (some a0))] [] σ 0 0) : gx_C (gc_O θ) (nX1_init (n + 1)) [.ref a0] σ (gc_Pv P) :=
  gx_C.intro (gc_z_warm θ) rfl (Nat.le_of_ble_eq_true rfl) body
theorem bc_X1_init_0 {θ : gc_T} {K : gx_K} {P : gc_S → Prop} {σ : gc_S} {a0 n bc bs : Nat} (h : gc_K θ K (nX1_init (n + 1))) (k : False) : gc_G θ K (nX1_init (n + 1)) (gc_Pv P) 0 [(0, va_rf (some a0))] [] σ bc bs := by
  refine gx_aload_nq (r := some a0) h 0 rfl dX1_init_0 ?_
  exact k.elim
/-! X1.of -/
theorem ec_X1_of {θ : gc_T} {P : Option Nat → gc_S → Prop} {σ : gc_S} {n : Nat} {a0 : Nat} {x1 : Int32} (body : ∀ K, gc_K θ K (nX1_of n) → gc_G θ K (nX1_of n) (gc_Pr P) 0 [(0, va_rf (some a0)), (1, .int x1)] [] σ 0 0) : gx_C (gc_O θ) (nX1_of n) [.ref a0, .int x1] σ (gc_Pr P) :=
  gx_C.intro (gc_z_warm θ) rfl (Nat.le_of_ble_eq_true rfl) body
theorem bc_X1_of_0 {θ : gc_T} {K : gx_K} {P : Option Nat → gc_S → Prop} {σ : gc_S} {x1 : Int32} {a0 n bc bs : Nat} (h : gc_K θ K (nX1_of n)) (k : gc_is σ a0 1 ∧ ∀ σ2, σ2 = gc_sI σ 106 a0 x1 → P (some a0) σ2) : gc_G θ K (nX1_of n) (gc_Pr P) 0 [(0, va_rf (some a0)), (1, .int x1)] [] σ bc bs := by
  refine gx_aload_nq (r := some a0) h 0 rfl dX1_of_0 ?_
  refine gx_iload_n h 1 rfl dX1_of_1 ?_
  refine gcp_X1_7 (v := x1) h rfl rfl k.1 dX1_of_2 ?_
  generalize hz : gc_sI σ 106 a0 x1 = σ2
  replace k := k.2 σ2 hz.symm
  refine gx_aload_nq (r := some a0) h 0 rfl dX1_of_5 ?_
  exact gx_aret (r := some a0) h rfl (Or.inl ⟨_, rfl⟩) dX1_of_6 (⟨_, rfl, k⟩)
/-! X2.init -/
theorem ec_X2_init {θ : gc_T} {P : gc_S → Prop} {σ : gc_S} {n : Nat} {a0 : Nat} {x1 : Option Nat} (body : ∀ K, gc_K θ K (nX2_init (n + 1)) → gc_G θ K (nX2_init (n + 1)) (gc_Pv P) 0 [(0, va_rf (some a0)), (1, va_rf x1)] [] σ 0 0) : gx_C (gc_O θ) (nX2_init (n + 1)) [.ref a0, va_rf x1] σ (gc_Pv P) := by
  refine gx_C.intro (gc_z_warm θ) rfl (by cases x1 <;> exact Nat.le_of_ble_eq_true rfl) (fun K h => ?_)
  have k := body K h
  cases x1 <;> exact k
theorem bc_X2_init_0 {θ : gc_T} {K : gx_K} {P : gc_S → Prop} {σ : gc_S} {x1 : Option Nat} {a0 n bc bs : Nat} (h : gc_K θ K (nX2_init (n + 1))) (k : gc_is σ a0 2 ∧ ∀ σ6, σ6 = gc_sR σ 200 a0 x1 → P σ6) : gc_G θ K (nX2_init (n + 1)) (gc_Pv P) 0 [(0, va_rf (some a0)), (1, va_rf x1)] [] σ bc bs := by
  refine gx_aload_nq (r := some a0) h 0 rfl dX2_init_0 ?_
  refine gcc_X2_3 (n := n) (r := some a0) h rfl ⟨Nat.le_refl _, Nat.le_refl _⟩ rfl (Nat.le_of_ble_eq_true rfl) dX2_init_1 ?_
  refine gx_aload_nq (r := some a0) h 0 rfl dX2_init_4 ?_
  refine gx_aload_nq (r := x1) h 1 rfl dX2_init_5 ?_
  refine gcp_X2_9 (v := x1) h rfl rfl rfl k.1 dX2_init_6 ?_
  generalize hz : gc_sR σ 200 a0 x1 = σ6
  replace k := k.2 σ6 hz.symm
  exact gx_vret h rfl dX2_init_9 (⟨rfl, k⟩)
/-! X2.read -/
theorem ec_X2_read {θ : gc_T} {P : Option Nat → gc_S → Prop} {T : Nat → gc_S → Prop} {σ : gc_S} {n c s : Nat} {a0 : Nat} {x1 : Option Nat} {x2 : Int32} (body : ∀ K, gc_K θ K (nX2_read (n + 1) c s) → gc_G θ K (nX2_read (n + 1) c s) (gc_Qr P T) 0 [(0, va_rf (some a0)), (1, va_rf x1), (2, .int x2)] [] σ c s) : gx_C (gc_O θ) (nX2_read (n + 1) c s) [.ref a0, va_rf x1, .int x2] σ (gc_Qr P T) := by
  refine gx_C.intro (gc_z_warm θ) rfl (by cases x1 <;> exact Nat.le_of_ble_eq_true rfl) (fun K h => ?_)
  have k := body K h
  cases x1 <;> exact k
theorem bc_X2_read_0 {θ : gc_T} {K : gx_K} {P : Option Nat → gc_S → Prop} {T : Nat → gc_S → Prop} {σ : gc_S} {x2 : Int32} {x1 : Option Nat} {a0 n c s bc bs : Nat} (h : gc_K θ K (nX2_read (n + 1) c s)) (k : gc_is σ a0 2 ∧ ∀ σ2, σ2 = gc_sR σ 201 a0 x1 → gc_is σ2 a0 2 ∧ ∀ σ7, σ7 = gc_sI σ2 202 a0 x2 → gc_is σ7 a0 2 ∧ ∀ σ12, σ12 = gc_sI σ7 203 a0 0 → gc_is σ12 a0 2 ∧ ∀ σ17, σ17 = gc_sI σ12 204 a0 0 → ∃ c23 s23 : Nat, (c23 ≤ bc ∧ s23 ≤ bs) ∧ gc_is σ17 a0 2 ∧ gx_C (gc_O θ) (nX2_node n c23 s23) (.ref a0 :: [.int 0, va_rf none]) σ17 (gc_Qr (fun r23 σ23 => gc_is σ23 a0 2 ∧ ((x2 ≤ (gc_I σ23 203 a0) → P r23 σ23) ∧ (¬ x2 ≤ (gc_I σ23 203 a0) → gc_is σ23 a0 2 ∧ gc_is σ23 a0 2 ∧ gx_C (gc_O θ) (nX2_wrong n) (.ref a0 :: [.int (gc_I σ23 203 a0)]) σ23 (gc_Pr (fun r40 σ40 => ∃ a43_1 : Nat, r40 = some a43_1 ∧ T a43_1 σ40))))) (fun a23 σ23 => T a23 σ23))) : gc_G θ K (nX2_read (n + 1) c s) (gc_Qr P T) 0 [(0, va_rf (some a0)), (1, va_rf x1), (2, .int x2)] [] σ bc bs := by
  refine gx_aload_nq (r := some a0) h 0 rfl dX2_read_0 ?_
  refine gx_aload_nq (r := x1) h 1 rfl dX2_read_1 ?_
  refine gcp_X2_28 (v := x1) h rfl rfl k.1 dX2_read_2 ?_
  generalize hz : gc_sR σ 201 a0 x1 = σ2
  replace k := k.2 σ2 hz.symm
  refine gx_aload_nq (r := some a0) h 0 rfl dX2_read_5 ?_
  refine gx_iload_n h 2 rfl dX2_read_6 ?_
  refine gcp_X2_25 (v := x2) h rfl rfl k.1 dX2_read_7 ?_
  generalize hz : gc_sI σ2 202 a0 x2 = σ7
  replace k := k.2 σ7 hz.symm
  refine gx_aload_nq (r := some a0) h 0 rfl dX2_read_10 ?_
  refine gx_iconst (v := 0) h dX2_read_11 (by decide) ?_
  refine gcp_X2_21 (v := 0) h rfl rfl k.1 dX2_read_12 ?_
  generalize hz : gc_sI σ7 203 a0 0 = σ12
  replace k := k.2 σ12 hz.symm
  refine gx_aload_nq (r := some a0) h 0 rfl dX2_read_15 ?_
  refine gx_iconst (v := 0) h dX2_read_16 (by decide) ?_
  refine gcp_X2_32 (v := 0) h rfl rfl k.1 dX2_read_17 ?_
  generalize hz : gc_sI σ12 204 a0 0 = σ17
  replace k := k.2 σ17 hz.symm
  refine gx_aload_nq (r := some a0) h 0 rfl dX2_read_20 ?_
  refine gx_iconst (v := 0) h dX2_read_21 (by decide) ?_
  refine gx_null h dX2_read_22 ?_
  obtain ⟨c23, s23, hb23, k⟩ := k
  refine gcc_X2_35 (r := some a0) (a0 := 0) (a1 := none) h rfl ⟨Nat.le_refl _, Nat.le_refl _⟩ hb23 rfl k.1 (Nat.le_of_ble_eq_true rfl) dX2_read_23 (gx_C.mono k.2 ?_)
  rintro o σ23 (⟨r23, rfl, k⟩ | ⟨a23, rfl, k⟩)
  · refine Or.inl ⟨r23, rfl, ?_⟩
    refine gx_astore_nq (r := r23) (L' := [(3, va_rf r23), (0, va_rf (some a0)), (1, va_rf x1), (2, .int x2)]) h (Nat.le_of_ble_eq_true rfl) rfl dX2_read_26 ?_
    refine gx_aload_nq (r := some a0) h 1 rfl dX2_read_27 ?_
    refine gcg_X2_21 h rfl rfl k.1 dX2_read_28 ?_
    replace k := k.2
    refine gx_iload_n h 3 rfl dX2_read_31 ?_
    refine gx_icmp_ge (tgt := 44) h (by decide) dX2_read_32 (fun c => ?_) (fun c => ?_)
    · replace k := k.1 c
      refine gx_aload_nq (r := r23) h 0 rfl dX2_read_44 ?_
      exact gx_aret (r := r23) h rfl (Or.inl ⟨_, rfl⟩) dX2_read_45 (Or.inl ⟨_, rfl, k⟩)
    · replace k := k.2 c
      refine gx_aload_nq (r := some a0) h 1 rfl dX2_read_35 ?_
      refine gx_aload_nq (r := some a0) h 1 rfl dX2_read_36 ?_
      refine gcg_X2_21 h rfl rfl k.1 dX2_read_37 ?_
      replace k := k.2
      refine gcc_X2_39 (r := some a0) (a0 := gc_I σ23 203 a0) h rfl ⟨Nat.le_refl _, Nat.le_refl _⟩ rfl k.1 (Nat.le_of_ble_eq_true rfl) dX2_read_40 (gx_C.mono k.2 ?_)
      rintro _ σ40 ⟨r40, rfl, k⟩
      refine ⟨r40, rfl, ?_⟩
      obtain ⟨a43_1, e43_1, k⟩ := k
      refine gc_athrow (r := r40) h e43_1 dX2_read_43 ?_
      exact gx_out h rfl (Or.inr ⟨_, rfl, k⟩)
  · refine Or.inr ⟨a23, rfl, ?_⟩
    exact gx_out h rfl (Or.inr ⟨_, rfl, k⟩)
/-! X2.node -/
theorem ec_X2_node {θ : gc_T} {P : Option Nat → gc_S → Prop} {T : Nat → gc_S → Prop} {σ : gc_S} {n c s : Nat} {a0 : Nat} {x1 : Int32} {x2 : Option Nat} (body : ∀ K, gc_K θ K (nX2_node (n + 1) c s) → gc_G θ K (nX2_node (n + 1) c s) (gc_Qr P T) 0 [(0, va_rf (some a0)), (1, .int x1), (2, va_rf x2)] [] σ c s) : gx_C (gc_O θ) (nX2_node (n + 1) c s) [.ref a0, .int x1, va_rf x2] σ (gc_Qr P T) := by
  refine gx_C.intro (gc_z_warm θ) rfl (by cases x2 <;> exact Nat.le_of_ble_eq_true rfl) (fun K h => ?_)
  have k := body K h
  cases x2 <;> exact k
theorem bc_X2_node_0 {θ : gc_T} {K : gx_K} {P : Option Nat → gc_S → Prop} {T : Nat → gc_S → Prop} {σ : gc_S} {x1 : Int32} {x2 : Option Nat} {a0 n c s bc bs : Nat} (h : gc_K θ K (nX2_node (n + 1) c s)) (k : gc_is σ a0 2 ∧ gc_is σ a0 2 ∧ gc_is σ a0 2 ∧ (((gc_I σ 203 a0) = (gc_I σ 202 a0) → gc_G θ K (nX2_node (n + 1) c s) (gc_Qr P T) 46 [(0, va_rf (some a0))] [] σ bc bs) ∧ (¬ (gc_I σ 203 a0) = (gc_I σ 202 a0) → gc_is σ a0 2 ∧ gc_is σ a0 2 ∧ ∃ a24_1 : Nat, gc_R σ 201 a0 = some a24_1 ∧ gc_is σ a24_1 15 ∧ vp_in (gc_I σ 203 a0) (gc_n σ a24_1) ∧ gx_C (gc_O θ) (nX0_isLetter n) [.int (gc_E σ a24_1 (gc_I σ 203 a0).toNatClampNeg)] σ (gc_Pi (fun r25 σ25 => ((r25 = 0 → gc_G θ K (nX2_node (n + 1) c s) (gc_Qr P T) 46 [(0, va_rf (some a0))] [] σ25 bc bs) ∧ (¬ r25 = 0 → gc_is σ25 a0 2 ∧ (((gc_I σ25 204 a0) = 30 → gc_G θ K (nX2_node (n + 1) c s) (gc_Qr P T) 46 [(0, va_rf (some a0))] [] σ25 bc bs) ∧ (¬ (gc_I σ25 204 a0) = 30 → ((x1 = 12 → gc_G θ K (nX2_node (n + 1) c s) (gc_Qr P T) 46 [(0, va_rf (some a0))] [] σ25 bc bs) ∧ (¬ x1 = 12 → gc_is σ25 a0 2 ∧ gc_is σ25 a0 2 ∧ ∀ σ62, σ62 = gc_sI σ25 204 a0 ((gc_I σ25 204 a0) + 1) → gc_G θ K (nX2_node (n + 1) c s) (gc_Qr P T) 65 [(0, va_rf (some a0)), (1, .int x1), (2, va_rf x2), (3, .int (gc_I σ 203 a0))] [] σ62 bc bs))))))))))) : gc_G θ K (nX2_node (n + 1) c s) (gc_Qr P T) 0 [(0, va_rf (some a0)), (1, .int x1), (2, va_rf x2)] [] σ bc bs := by
  refine gx_aload_nq (r := some a0) h 0 rfl dX2_node_0 ?_
  refine gcg_X2_21 h rfl rfl k.1 dX2_node_1 ?_
  replace k := k.2
  refine gx_istore_n (L' := [(3, .int (gc_I σ 203 a0)), (0, va_rf (some a0)), (1, .int x1), (2, va_rf x2)]) h (Nat.le_of_ble_eq_true rfl) (by generalize x2 = z; cases z <;> rfl) dX2_node_4 ?_
  refine gx_aload_nq (r := some a0) h 1 rfl dX2_node_5 ?_
  refine gcg_X2_21 h rfl rfl k.1 dX2_node_6 ?_
  replace k := k.2
  refine gx_aload_nq (r := some a0) h 1 rfl dX2_node_9 ?_
  refine gcg_X2_25 h rfl rfl k.1 dX2_node_10 ?_
  replace k := k.2
  refine gx_icmp_eq (tgt := 46) h (by decide) dX2_node_13 (fun c => ?_) (fun c => ?_)
  · replace k := k.1 c
    exact gx_sub [1] rfl k
  · replace k := k.2 c
    refine gx_aload_nq (r := some a0) h 1 rfl dX2_node_16 ?_
    refine gcg_X2_28 h rfl rfl k.1 dX2_node_17 ?_
    replace k := k.2
    refine gx_aload_nq (r := some a0) h 1 rfl dX2_node_20 ?_
    refine gcg_X2_21 h rfl rfl k.1 dX2_node_21 ?_
    replace k := k.2
    obtain ⟨a24_1, e24_1, k⟩ := k
    refine gc_baldE (r := gc_R σ 201 a0) h e24_1 k.1 k.2.1 dX2_node_24 ?_
    replace k := k.2.2
    refine gcc_X2_42 (a0 := gc_E σ a24_1 (gc_I σ 203 a0).toNatClampNeg) h rfl ⟨Nat.le_refl _, Nat.le_refl _⟩ (Nat.le_of_ble_eq_true rfl) dX2_node_25 (gx_C.mono k ?_)
    rintro _ σ25 ⟨r25, rfl, k⟩
    refine ⟨r25, rfl, ?_⟩
    refine gx_if_eq (tgt := 46) h (by decide) dX2_node_28 (fun c => ?_) (fun c => ?_)
    · replace k := k.1 c
      exact gx_sub [1] rfl k
    · replace k := k.2 c
      refine gx_aload_nq (r := some a0) h 1 rfl dX2_node_31 ?_
      refine gcg_X2_32 h rfl rfl k.1 dX2_node_32 ?_
      replace k := k.2
      refine gx_bipush (v := 30) h dX2_node_35 (by decide) ?_
      refine gx_icmp_eq (tgt := 46) h (by decide) dX2_node_37 (fun c => ?_) (fun c => ?_)
      · replace k := k.1 c
        exact gx_sub [1] rfl k
      · replace k := k.2 c
        refine gx_iload_n h 2 rfl dX2_node_40 ?_
        refine gx_bipush (v := 12) h dX2_node_41 (by decide) ?_
        refine gx_icmp_ne (tgt := 55) h (by decide) dX2_node_43 (fun c => ?_) (fun c => ?_)
        · replace k := k.2 c
          refine gx_aload_nq (r := some a0) h 1 rfl dX2_node_55 ?_
          refine gx_dup h rfl dX2_node_56 ?_
          refine gcg_X2_32 h rfl rfl k.1 dX2_node_57 ?_
          replace k := k.2
          refine gx_iconst (v := 1) h dX2_node_60 (by decide) ?_
          refine gx_iadd h dX2_node_61 ?_
          refine gcp_X2_32 (v := (gc_I σ25 204 a0) + 1) h rfl rfl k.1 dX2_node_62 ?_
          generalize hz : gc_sI σ25 204 a0 ((gc_I σ25 204 a0) + 1) = σ62
          replace k := k.2 σ62 hz.symm
          exact gx_sub [1, 2, 3, 0] rfl k
        · replace k := k.1 c
          exact gx_sub [1] rfl k
theorem bc_X2_node_46 {θ : gc_T} {K : gx_K} {P : Option Nat → gc_S → Prop} {T : Nat → gc_S → Prop} {σ : gc_S} {a0 n c s bc bs : Nat} (h : gc_K θ K (nX2_node (n + 1) c s)) (k : gc_is σ a0 2 ∧ gc_is σ a0 2 ∧ gx_C (gc_O θ) (nX2_wrong n) (.ref a0 :: [.int (gc_I σ 203 a0)]) σ (gc_Pr (fun r51 σ51 => ∃ a54_1 : Nat, r51 = some a54_1 ∧ T a54_1 σ51))) : gc_G θ K (nX2_node (n + 1) c s) (gc_Qr P T) 46 [(0, va_rf (some a0))] [] σ bc bs := by
  refine gx_aload_nq (r := some a0) h 0 rfl dX2_node_46 ?_
  refine gx_aload_nq (r := some a0) h 0 rfl dX2_node_47 ?_
  refine gcg_X2_21 h rfl rfl k.1 dX2_node_48 ?_
  replace k := k.2
  refine gcc_X2_39 (r := some a0) (a0 := gc_I σ 203 a0) h rfl ⟨Nat.le_refl _, Nat.le_refl _⟩ rfl k.1 (Nat.le_of_ble_eq_true rfl) dX2_node_51 (gx_C.mono k.2 ?_)
  rintro _ σ51 ⟨r51, rfl, k⟩
  refine ⟨r51, rfl, ?_⟩
  obtain ⟨a54_1, e54_1, k⟩ := k
  refine gc_athrow (r := r51) h e54_1 dX2_node_54 ?_
  exact gx_out h rfl (Or.inr ⟨_, rfl, k⟩)
theorem bc_X2_node_65 {θ : gc_T} {K : gx_K} {P : Option Nat → gc_S → Prop} {T : Nat → gc_S → Prop} {σ : gc_S} {x1 x3 : Int32} {x2 : Option Nat} {a0 n c s bc bs : Nat} (h : gc_K θ K (nX2_node (n + 1) c s)) (k : gc_is σ a0 2 ∧ gc_is σ a0 2 ∧ (((gc_I σ 202 a0) ≤ (gc_I σ 203 a0) → gc_G θ K (nX2_node (n + 1) c s) (gc_Qr P T) 124 [(0, va_rf (some a0)), (1, .int x1), (2, va_rf x2), (3, .int x3)] [] σ bc bs) ∧ (¬ (gc_I σ 202 a0) ≤ (gc_I σ 203 a0) → gc_is σ a0 2 ∧ gc_is σ a0 2 ∧ ∃ a84_1 : Nat, gc_R σ 201 a0 = some a84_1 ∧ gc_is σ a84_1 15 ∧ vp_in (gc_I σ 203 a0) (gc_n σ a84_1) ∧ gx_C (gc_O θ) (nX0_isLetter n) [.int (gc_E σ a84_1 (gc_I σ 203 a0).toNatClampNeg)] σ (gc_Pi (fun r85 σ85 => ((r85 = 0 → gc_G θ K (nX2_node (n + 1) c s) (gc_Qr P T) 124 [(0, va_rf (some a0)), (1, .int x1), (2, va_rf x2), (3, .int x3)] [] σ85 bc bs) ∧ (¬ r85 = 0 → gc_is σ85 a0 2 ∧ ((((gc_I σ85 203 a0) - x3) = 6 → gc_is σ85 a0 2 ∧ gc_is σ85 a0 2 ∧ gx_C (gc_O θ) (nX2_wrong n) (.ref a0 :: [.int (gc_I σ85 203 a0)]) σ85 (gc_Pr (fun r107 σ107 => ∃ a110_2 : Nat, r107 = some a110_2 ∧ T a110_2 σ107))) ∧ (¬ ((gc_I σ85 203 a0) - x3) = 6 → gc_is σ85 a0 2 ∧ gc_is σ85 a0 2 ∧ ∀ σ118, σ118 = gc_sI σ85 203 a0 ((gc_I σ85 203 a0) + 1) → gc_G θ K (nX2_node (n + 1) c s) (gc_Qr P T) 65 [(0, va_rf (some a0)), (1, .int x1), (2, va_rf x2), (3, .int x3)] [] σ118 bc bs))))))))) : gc_G θ K (nX2_node (n + 1) c s) (gc_Qr P T) 65 [(0, va_rf (some a0)), (1, .int x1), (2, va_rf x2), (3, .int x3)] [] σ bc bs := by
  refine gx_aload_nq (r := some a0) h 0 rfl dX2_node_65 ?_
  refine gcg_X2_21 h rfl rfl k.1 dX2_node_66 ?_
  replace k := k.2
  refine gx_aload_nq (r := some a0) h 0 rfl dX2_node_69 ?_
  refine gcg_X2_25 h rfl rfl k.1 dX2_node_70 ?_
  replace k := k.2
  refine gx_icmp_ge (tgt := 124) h (by decide) dX2_node_73 (fun c => ?_) (fun c => ?_)
  · replace k := k.1 c
    exact k
  · replace k := k.2 c
    refine gx_aload_nq (r := some a0) h 0 rfl dX2_node_76 ?_
    refine gcg_X2_28 h rfl rfl k.1 dX2_node_77 ?_
    replace k := k.2
    refine gx_aload_nq (r := some a0) h 0 rfl dX2_node_80 ?_
    refine gcg_X2_21 h rfl rfl k.1 dX2_node_81 ?_
    replace k := k.2
    obtain ⟨a84_1, e84_1, k⟩ := k
    refine gc_baldE (r := gc_R σ 201 a0) h e84_1 k.1 k.2.1 dX2_node_84 ?_
    replace k := k.2.2
    refine gcc_X2_42 (a0 := gc_E σ a84_1 (gc_I σ 203 a0).toNatClampNeg) h rfl ⟨Nat.le_refl _, Nat.le_refl _⟩ (Nat.le_of_ble_eq_true rfl) dX2_node_85 (gx_C.mono k ?_)
    rintro _ σ85 ⟨r85, rfl, k⟩
    refine ⟨r85, rfl, ?_⟩
    refine gx_if_eq (tgt := 124) h (by decide) dX2_node_88 (fun c => ?_) (fun c => ?_)
    · replace k := k.1 c
      exact k
    · replace k := k.2 c
      refine gx_aload_nq (r := some a0) h 0 rfl dX2_node_91 ?_
      refine gcg_X2_21 h rfl rfl k.1 dX2_node_92 ?_
      replace k := k.2
      refine gx_iload_n h 3 rfl dX2_node_95 ?_
      refine gx_isub h dX2_node_96 ?_
      refine gx_bipush (v := 6) h dX2_node_97 (by decide) ?_
      refine gx_icmp_ne (tgt := 111) h (by decide) dX2_node_99 (fun c => ?_) (fun c => ?_)
      · replace k := k.2 c
        refine gx_aload_nq (r := some a0) h 0 rfl dX2_node_111 ?_
        refine gx_dup h rfl dX2_node_112 ?_
        refine gcg_X2_21 h rfl rfl k.1 dX2_node_113 ?_
        replace k := k.2
        refine gx_iconst (v := 1) h dX2_node_116 (by decide) ?_
        refine gx_iadd h dX2_node_117 ?_
        refine gcp_X2_21 (v := (gc_I σ85 203 a0) + 1) h rfl rfl k.1 dX2_node_118 ?_
        generalize hz : gc_sI σ85 203 a0 ((gc_I σ85 203 a0) + 1) = σ118
        replace k := k.2 σ118 hz.symm
        refine gx_goto (tgt := 65) h (by decide) dX2_node_121 ?_
        exact k
      · replace k := k.1 c
        refine gx_aload_nq (r := some a0) h 0 rfl dX2_node_102 ?_
        refine gx_aload_nq (r := some a0) h 0 rfl dX2_node_103 ?_
        refine gcg_X2_21 h rfl rfl k.1 dX2_node_104 ?_
        replace k := k.2
        refine gcc_X2_39 (r := some a0) (a0 := gc_I σ85 203 a0) h rfl ⟨Nat.le_refl _, Nat.le_refl _⟩ rfl k.1 (Nat.le_of_ble_eq_true rfl) dX2_node_107 (gx_C.mono k.2 ?_)
        rintro _ σ107 ⟨r107, rfl, k⟩
        refine ⟨r107, rfl, ?_⟩
        obtain ⟨a110_2, e110_2, k⟩ := k
        refine gc_athrow (r := r107) h e110_2 dX2_node_110 ?_
        exact gx_out h rfl (Or.inr ⟨_, rfl, k⟩)
theorem bc_X2_node_124 {θ : gc_T} {K : gx_K} {P : Option Nat → gc_S → Prop} {T : Nat → gc_S → Prop} {σ : gc_S} {x1 x3 : Int32} {x2 : Option Nat} {a0 n c s bc bs : Nat} (h : gc_K θ K (nX2_node (n + 1) c s)) (k : gc_is σ a0 2 ∧ gc_is σ a0 2 ∧ ∃ c133 s133 : Nat, (c133 ≤ bc ∧ s133 ≤ bs) ∧ gx_C (gc_O θ) (nX0_part n c133 s133) [va_rf (gc_R σ 201 a0), .int x3, .int (gc_I σ 203 a0)] σ (gc_Pr (fun r133 σ133 => gc_G θ K (nX2_node (n + 1) c s) (gc_Qr P T) 141 [(0, va_rf (some a0)), (1, .int x1), (2, va_rf x2), (3, .int x3), (4, va_rf r133), (5, .int 0)] [] σ133 (bc - c133) (bs - s133)))) : gc_G θ K (nX2_node (n + 1) c s) (gc_Qr P T) 124 [(0, va_rf (some a0)), (1, .int x1), (2, va_rf x2), (3, .int x3)] [] σ bc bs := by
  refine gx_aload_nq (r := some a0) h 0 rfl dX2_node_124 ?_
  refine gcg_X2_28 h rfl rfl k.1 dX2_node_125 ?_
  replace k := k.2
  refine gx_iload_n h 3 rfl dX2_node_128 ?_
  refine gx_aload_nq (r := some a0) h 0 rfl dX2_node_129 ?_
  refine gcg_X2_21 h rfl rfl k.1 dX2_node_130 ?_
  replace k := k.2
  obtain ⟨c133, s133, hb133, k⟩ := k
  refine gcc_X2_46 (a0 := gc_R σ 201 a0) (a1 := x3) (a2 := gc_I σ 203 a0) h rfl ⟨Nat.le_refl _, Nat.le_refl _⟩ hb133 (Nat.le_of_ble_eq_true rfl) dX2_node_133 (gx_C.mono k ?_)
  rintro _ σ133 ⟨r133, rfl, k⟩
  refine ⟨r133, rfl, ?_⟩
  refine gx_astoreq (r := r133) (L' := [(4, va_rf r133), (0, va_rf (some a0)), (1, .int x1), (2, va_rf x2), (3, .int x3)]) h (Nat.le_of_ble_eq_true rfl) rfl dX2_node_136 ?_
  refine gx_iconst (v := 0) h dX2_node_138 (by decide) ?_
  refine gx_istore (L' := [(5, .int 0), (4, va_rf r133), (0, va_rf (some a0)), (1, .int x1), (2, va_rf x2), (3, .int x3)]) h (Nat.le_of_ble_eq_true rfl) (by generalize r133 = z; cases z <;> rfl) dX2_node_139 ?_
  exact gx_sub [2, 3, 4, 5, 1, 0] rfl k
theorem bc_X2_node_141 {θ : gc_T} {K : gx_K} {P : Option Nat → gc_S → Prop} {T : Nat → gc_S → Prop} {σ : gc_S} {x1 x3 x5 : Int32} {x2 x4 : Option Nat} {a0 n c s bc bs : Nat} (h : gc_K θ K (nX2_node (n + 1) c s)) (k : ((x2 = none → gc_G θ K (nX2_node (n + 1) c s) (gc_Qr P T) 186 [(0, va_rf (some a0)), (1, .int x1), (4, va_rf x4)] [] σ bc bs) ∧ (¬ x2 = none → ∃ a148_1 : Nat, x2 = some a148_1 ∧ gc_is σ a148_1 12 ∧ gx_C (gc_O θ) (nJ5_size n) (.ref a148_1 :: []) σ (gc_Pi (fun r148 σ148 => ((r148 ≤ x5 → gc_G θ K (nX2_node (n + 1) c s) (gc_Qr P T) 186 [(0, va_rf (some a0)), (1, .int x1), (4, va_rf x4)] [] σ148 bc bs) ∧ (¬ r148 ≤ x5 → gc_is σ148 a148_1 12 ∧ gx_C (gc_O θ) (nJ5_get n) (.ref a148_1 :: [.int x5]) σ148 (gc_Pr (fun r157 σ157 => (∀ a, r157 = some a → gc_isN σ157 a) ∧ ∃ a163_2 : Nat, r157 = some a163_2 ∧ gc_isN σ157 a163_2 ∧ gx_C (gc_O θ) (nX0_isSame n) [va_rf (gc_R σ157 801 a163_2), va_rf x4] σ157 (gc_Pi (fun r168 σ168 => ((r168 = 0 → gc_G θ K (nX2_node (n + 1) c s) (gc_Qr P T) 141 [(0, va_rf (some a0)), (1, .int x1), (2, va_rf x2), (3, .int x3), (4, va_rf x4), (5, .int (x5 + 1))] [] σ168 bc bs) ∧ (¬ r168 = 0 → gc_is σ168 a0 2 ∧ gx_C (gc_O θ) (nX2_wrong n) (.ref a0 :: [.int x3]) σ168 (gc_Pr (fun r176 σ176 => ∃ a179_3 : Nat, r176 = some a179_3 ∧ T a179_3 σ176))))))))))))))) : gc_G θ K (nX2_node (n + 1) c s) (gc_Qr P T) 141 [(0, va_rf (some a0)), (1, .int x1), (2, va_rf x2), (3, .int x3), (4, va_rf x4), (5, .int x5)] [] σ bc bs := by
  refine gx_aload_nq (r := x2) h 2 rfl dX2_node_141 ?_
  refine gx_ifnull (r := x2) (tgt := 186) h (by decide) dX2_node_142 (fun c => ?_) (fun c => ?_)
  · replace k := k.1 c
    exact gx_sub [0, 1, 4] rfl k
  · replace k := k.2 c
    refine gx_iload h 5 rfl dX2_node_145 ?_
    refine gx_aload_nq (r := x2) h 2 rfl dX2_node_147 ?_
    obtain ⟨a148_1, e148_1, k⟩ := k
    refine gcc_X2_50 (r := x2)  h rfl ⟨Nat.le_refl _, Nat.le_refl _⟩ e148_1 k.1 (Nat.le_of_ble_eq_true rfl) dX2_node_148 (gx_C.mono k.2 ?_)
    rintro _ σ148 ⟨r148, rfl, k⟩
    refine ⟨r148, rfl, ?_⟩
    refine gx_icmp_ge (tgt := 186) h (by decide) dX2_node_151 (fun c => ?_) (fun c => ?_)
    · replace k := k.1 c
      exact gx_sub [0, 1, 4] rfl k
    · replace k := k.2 c
      refine gx_aload_nq (r := x2) h 2 rfl dX2_node_154 ?_
      refine gx_iload h 5 rfl dX2_node_155 ?_
      refine gcc_X2_56 (r := x2) (a0 := x5) h rfl ⟨Nat.le_refl _, Nat.le_refl _⟩ e148_1 k.1 (Nat.le_of_ble_eq_true rfl) dX2_node_157 (gx_C.mono k.2 ?_)
      rintro _ σ157 ⟨r157, rfl, k⟩
      refine ⟨r157, rfl, ?_⟩
      refine gc_castN (r := r157) h rfl q471 q1639 q1638 q1640 q1641 k.1 dX2_node_160 ?_
      replace k := k.2
      obtain ⟨a163_2, e163_2, k⟩ := k
      refine gcg_X2_62 h rfl e163_2 k.1 dX2_node_163 ?_
      replace k := k.2
      refine gx_aloadq (r := x4) h 4 rfl dX2_node_166 ?_
      refine gcc_X2_65 (a0 := gc_R σ157 801 a163_2) (a1 := x4) h rfl ⟨Nat.le_refl _, Nat.le_refl _⟩ (Nat.le_of_ble_eq_true rfl) dX2_node_168 (gx_C.mono k ?_)
      rintro _ σ168 ⟨r168, rfl, k⟩
      refine ⟨r168, rfl, ?_⟩
      refine gx_if_eq (tgt := 180) h (by decide) dX2_node_171 (fun c => ?_) (fun c => ?_)
      · replace k := k.1 c
        refine gx_iinc (v := x5 + 1) (L' := [(5, .int (x5 + 1)), (0, va_rf (some a0)), (1, .int x1), (2, va_rf x2), (3, .int x3), (4, va_rf x4)]) h 5 rfl rfl (Nat.le_of_ble_eq_true rfl) (by generalize x4 = z; cases z <;> rfl) dX2_node_180 ?_
        refine gx_goto (tgt := 141) h (by decide) dX2_node_183 ?_
        exact gx_sub [1, 2, 3, 4, 5, 0] rfl k
      · replace k := k.2 c
        refine gx_aload_nq (r := some a0) h 0 rfl dX2_node_174 ?_
        refine gx_iload_n h 3 rfl dX2_node_175 ?_
        refine gcc_X2_39 (r := some a0) (a0 := x3) h rfl ⟨Nat.le_refl _, Nat.le_refl _⟩ rfl k.1 (Nat.le_of_ble_eq_true rfl) dX2_node_176 (gx_C.mono k.2 ?_)
        rintro _ σ176 ⟨r176, rfl, k⟩
        refine ⟨r176, rfl, ?_⟩
        obtain ⟨a179_3, e179_3, k⟩ := k
        refine gc_athrow (r := r176) h e179_3 dX2_node_179 ?_
        exact gx_out h rfl (Or.inr ⟨_, rfl, k⟩)
theorem bc_X2_node_186 {θ : gc_T} {K : gx_K} {P : Option Nat → gc_S → Prop} {T : Nat → gc_S → Prop} {σ : gc_S} {x1 : Int32} {x4 : Option Nat} {a0 n c s bc bs : Nat} (h : gc_K θ K (nX2_node (n + 1) c s)) (k : gc_is σ a0 2 ∧ gx_C (gc_O θ) (nX2_takes n) (.ref a0 :: [.int 61]) σ (gc_Pi (fun r194 σ194 => ((r194 = 0 → gc_G θ K (nX2_node (n + 1) c s) (gc_Qr P T) 299 [(0, va_rf (some a0)), (1, .int x1), (4, va_rf x4), (5, va_rf (some (gc_aE θ)))] [] σ194 bc bs) ∧ (¬ r194 = 0 → gc_is σ194 a0 2 ∧ gc_G θ K (nX2_node (n + 1) c s) (gc_Qr P T) 206 [(0, va_rf (some a0)), (1, .int x1), (4, va_rf x4), (6, .int (gc_I σ194 203 a0))] [] σ194 bc bs))))) : gc_G θ K (nX2_node (n + 1) c s) (gc_Qr P T) 186 [(0, va_rf (some a0)), (1, .int x1), (4, va_rf x4)] [] σ bc bs := by
  refine gc_emptyN h rfl q475 dX2_node_186 ?_
  refine gx_astoreq (r := some (gc_aE θ)) (L' := [(5, va_rf (some (gc_aE θ))), (0, va_rf (some a0)), (1, .int x1), (4, va_rf x4)]) h (Nat.le_of_ble_eq_true rfl) (by generalize x4 = z; cases z <;> rfl) dX2_node_189 ?_
  refine gx_aload_nq (r := some a0) h 1 rfl dX2_node_191 ?_
  refine gx_bipush (v := 61) h dX2_node_192 (by decide) ?_
  refine gcc_X2_72 (r := some a0) (a0 := 61) h rfl ⟨Nat.le_refl _, Nat.le_refl _⟩ rfl k.1 (Nat.le_of_ble_eq_true rfl) dX2_node_194 (gx_C.mono k.2 ?_)
  rintro _ σ194 ⟨r194, rfl, k⟩
  refine ⟨r194, rfl, ?_⟩
  refine gx_if_eq (tgt := 299) h (by decide) dX2_node_197 (fun c => ?_) (fun c => ?_)
  · replace k := k.1 c
    exact gx_sub [1, 2, 3, 0] rfl k
  · replace k := k.2 c
    refine gx_aload_nq (r := some a0) h 1 rfl dX2_node_200 ?_
    refine gcg_X2_21 h rfl rfl k.1 dX2_node_201 ?_
    replace k := k.2
    refine gx_istore (L' := [(6, .int (gc_I σ194 203 a0)), (5, va_rf (some (gc_aE θ))), (0, va_rf (some a0)), (1, .int x1), (4, va_rf x4)]) h (Nat.le_of_ble_eq_true rfl) rfl dX2_node_204 ?_
    exact gx_sub [2, 3, 4, 0] rfl k
theorem bc_X2_node_206 {θ : gc_T} {K : gx_K} {P : Option Nat → gc_S → Prop} {T : Nat → gc_S → Prop} {σ : gc_S} {x1 x6 : Int32} {x4 : Option Nat} {a0 n c s bc bs : Nat} (h : gc_K θ K (nX2_node (n + 1) c s)) (k : gc_is σ a0 2 ∧ gc_is σ a0 2 ∧ (((gc_I σ 202 a0) ≤ (gc_I σ 203 a0) → gc_G θ K (nX2_node (n + 1) c s) (gc_Qr P T) 266 [(0, va_rf (some a0)), (1, .int x1), (4, va_rf x4), (6, .int x6)] [] σ bc bs) ∧ (¬ (gc_I σ 202 a0) ≤ (gc_I σ 203 a0) → gc_is σ a0 2 ∧ gc_is σ a0 2 ∧ ∃ a225_1 : Nat, gc_R σ 201 a0 = some a225_1 ∧ gc_is σ a225_1 15 ∧ vp_in (gc_I σ 203 a0) (gc_n σ a225_1) ∧ gx_C (gc_O θ) (nX0_isSign n) [.int (gc_E σ a225_1 (gc_I σ 203 a0).toNatClampNeg)] σ (gc_Pi (fun r226 σ226 => ((r226 = 0 → gc_G θ K (nX2_node (n + 1) c s) (gc_Qr P T) 266 [(0, va_rf (some a0)), (1, .int x1), (4, va_rf x4), (6, .int x6)] [] σ226 bc bs) ∧ (¬ r226 = 0 → gc_is σ226 a0 2 ∧ ((((gc_I σ226 203 a0) - x6) = 8 → gc_is σ226 a0 2 ∧ gc_is σ226 a0 2 ∧ gx_C (gc_O θ) (nX2_wrong n) (.ref a0 :: [.int (gc_I σ226 203 a0)]) σ226 (gc_Pr (fun r249 σ249 => ∃ a252_2 : Nat, r249 = some a252_2 ∧ T a252_2 σ249))) ∧ (¬ ((gc_I σ226 203 a0) - x6) = 8 → gc_is σ226 a0 2 ∧ gc_is σ226 a0 2 ∧ ∀ σ260, σ260 = gc_sI σ226 203 a0 ((gc_I σ226 203 a0) + 1) → gc_G θ K (nX2_node (n + 1) c s) (gc_Qr P T) 206 [(0, va_rf (some a0)), (1, .int x1), (4, va_rf x4), (6, .int x6)] [] σ260 bc bs))))))))) : gc_G θ K (nX2_node (n + 1) c s) (gc_Qr P T) 206 [(0, va_rf (some a0)), (1, .int x1), (4, va_rf x4), (6, .int x6)] [] σ bc bs := by
  refine gx_aload_nq (r := some a0) h 0 rfl dX2_node_206 ?_
  refine gcg_X2_21 h rfl rfl k.1 dX2_node_207 ?_
  replace k := k.2
  refine gx_aload_nq (r := some a0) h 0 rfl dX2_node_210 ?_
  refine gcg_X2_25 h rfl rfl k.1 dX2_node_211 ?_
  replace k := k.2
  refine gx_icmp_ge (tgt := 266) h (by decide) dX2_node_214 (fun c => ?_) (fun c => ?_)
  · replace k := k.1 c
    exact k
  · replace k := k.2 c
    refine gx_aload_nq (r := some a0) h 0 rfl dX2_node_217 ?_
    refine gcg_X2_28 h rfl rfl k.1 dX2_node_218 ?_
    replace k := k.2
    refine gx_aload_nq (r := some a0) h 0 rfl dX2_node_221 ?_
    refine gcg_X2_21 h rfl rfl k.1 dX2_node_222 ?_
    replace k := k.2
    obtain ⟨a225_1, e225_1, k⟩ := k
    refine gc_baldE (r := gc_R σ 201 a0) h e225_1 k.1 k.2.1 dX2_node_225 ?_
    replace k := k.2.2
    refine gcc_X2_75 (a0 := gc_E σ a225_1 (gc_I σ 203 a0).toNatClampNeg) h rfl ⟨Nat.le_refl _, Nat.le_refl _⟩ (Nat.le_of_ble_eq_true rfl) dX2_node_226 (gx_C.mono k ?_)
    rintro _ σ226 ⟨r226, rfl, k⟩
    refine ⟨r226, rfl, ?_⟩
    refine gx_if_eq (tgt := 266) h (by decide) dX2_node_229 (fun c => ?_) (fun c => ?_)
    · replace k := k.1 c
      exact k
    · replace k := k.2 c
      refine gx_aload_nq (r := some a0) h 0 rfl dX2_node_232 ?_
      refine gcg_X2_21 h rfl rfl k.1 dX2_node_233 ?_
      replace k := k.2
      refine gx_iload h 3 rfl dX2_node_236 ?_
      refine gx_isub h dX2_node_238 ?_
      refine gx_bipush (v := 8) h dX2_node_239 (by decide) ?_
      refine gx_icmp_ne (tgt := 253) h (by decide) dX2_node_241 (fun c => ?_) (fun c => ?_)
      · replace k := k.2 c
        refine gx_aload_nq (r := some a0) h 0 rfl dX2_node_253 ?_
        refine gx_dup h rfl dX2_node_254 ?_
        refine gcg_X2_21 h rfl rfl k.1 dX2_node_255 ?_
        replace k := k.2
        refine gx_iconst (v := 1) h dX2_node_258 (by decide) ?_
        refine gx_iadd h dX2_node_259 ?_
        refine gcp_X2_21 (v := (gc_I σ226 203 a0) + 1) h rfl rfl k.1 dX2_node_260 ?_
        generalize hz : gc_sI σ226 203 a0 ((gc_I σ226 203 a0) + 1) = σ260
        replace k := k.2 σ260 hz.symm
        refine gx_goto (tgt := 206) h (by decide) dX2_node_263 ?_
        exact k
      · replace k := k.1 c
        refine gx_aload_nq (r := some a0) h 0 rfl dX2_node_244 ?_
        refine gx_aload_nq (r := some a0) h 0 rfl dX2_node_245 ?_
        refine gcg_X2_21 h rfl rfl k.1 dX2_node_246 ?_
        replace k := k.2
        refine gcc_X2_39 (r := some a0) (a0 := gc_I σ226 203 a0) h rfl ⟨Nat.le_refl _, Nat.le_refl _⟩ rfl k.1 (Nat.le_of_ble_eq_true rfl) dX2_node_249 (gx_C.mono k.2 ?_)
        rintro _ σ249 ⟨r249, rfl, k⟩
        refine ⟨r249, rfl, ?_⟩
        obtain ⟨a252_2, e252_2, k⟩ := k
        refine gc_athrow (r := r249) h e252_2 dX2_node_252 ?_
        exact gx_out h rfl (Or.inr ⟨_, rfl, k⟩)
theorem bc_X2_node_266 {θ : gc_T} {K : gx_K} {P : Option Nat → gc_S → Prop} {T : Nat → gc_S → Prop} {σ : gc_S} {x1 x6 : Int32} {x4 : Option Nat} {a0 n c s bc bs : Nat} (h : gc_K θ K (nX2_node (n + 1) c s)) (k : gc_is σ a0 2 ∧ (((gc_I σ 203 a0) = x6 → gc_is σ a0 2 ∧ gc_is σ a0 2 ∧ gx_C (gc_O θ) (nX2_wrong n) (.ref a0 :: [.int (gc_I σ 203 a0)]) σ (gc_Pr (fun r280 σ280 => ∃ a283_1 : Nat, r280 = some a283_1 ∧ T a283_1 σ280))) ∧ (¬ (gc_I σ 203 a0) = x6 → gc_is σ a0 2 ∧ gc_is σ a0 2 ∧ ∃ c294 s294 : Nat, (c294 ≤ bc ∧ s294 ≤ bs) ∧ gx_C (gc_O θ) (nX0_part n c294 s294) [va_rf (gc_R σ 201 a0), .int x6, .int (gc_I σ 203 a0)] σ (gc_Pr (fun r294 σ294 => gc_G θ K (nX2_node (n + 1) c s) (gc_Qr P T) 299 [(0, va_rf (some a0)), (1, .int x1), (4, va_rf x4), (5, va_rf r294)] [] σ294 (bc - c294) (bs - s294)))))) : gc_G θ K (nX2_node (n + 1) c s) (gc_Qr P T) 266 [(0, va_rf (some a0)), (1, .int x1), (4, va_rf x4), (6, .int x6)] [] σ bc bs := by
  refine gx_aload_nq (r := some a0) h 0 rfl dX2_node_266 ?_
  refine gcg_X2_21 h rfl rfl k.1 dX2_node_267 ?_
  replace k := k.2
  refine gx_iload h 3 rfl dX2_node_270 ?_
  refine gx_icmp_ne (tgt := 284) h (by decide) dX2_node_272 (fun c => ?_) (fun c => ?_)
  · replace k := k.2 c
    refine gx_aload_nq (r := some a0) h 0 rfl dX2_node_284 ?_
    refine gcg_X2_28 h rfl rfl k.1 dX2_node_285 ?_
    replace k := k.2
    refine gx_iload h 3 rfl dX2_node_288 ?_
    refine gx_aload_nq (r := some a0) h 0 rfl dX2_node_290 ?_
    refine gcg_X2_21 h rfl rfl k.1 dX2_node_291 ?_
    replace k := k.2
    obtain ⟨c294, s294, hb294, k⟩ := k
    refine gcc_X2_46 (a0 := gc_R σ 201 a0) (a1 := x6) (a2 := gc_I σ 203 a0) h rfl ⟨Nat.le_refl _, Nat.le_refl _⟩ hb294 (Nat.le_of_ble_eq_true rfl) dX2_node_294 (gx_C.mono k ?_)
    rintro _ σ294 ⟨r294, rfl, k⟩
    refine ⟨r294, rfl, ?_⟩
    refine gx_astoreq (r := r294) (L' := [(5, va_rf r294), (0, va_rf (some a0)), (1, .int x1), (4, va_rf x4), (6, .int x6)]) h (Nat.le_of_ble_eq_true rfl) (by generalize x4 = z; cases z <;> rfl) dX2_node_297 ?_
    exact gx_sub [1, 2, 3, 0] rfl k
  · replace k := k.1 c
    refine gx_aload_nq (r := some a0) h 0 rfl dX2_node_275 ?_
    refine gx_aload_nq (r := some a0) h 0 rfl dX2_node_276 ?_
    refine gcg_X2_21 h rfl rfl k.1 dX2_node_277 ?_
    replace k := k.2
    refine gcc_X2_39 (r := some a0) (a0 := gc_I σ 203 a0) h rfl ⟨Nat.le_refl _, Nat.le_refl _⟩ rfl k.1 (Nat.le_of_ble_eq_true rfl) dX2_node_280 (gx_C.mono k.2 ?_)
    rintro _ σ280 ⟨r280, rfl, k⟩
    refine ⟨r280, rfl, ?_⟩
    obtain ⟨a283_1, e283_1, k⟩ := k
    refine gc_athrow (r := r280) h e283_1 dX2_node_283 ?_
    exact gx_out h rfl (Or.inr ⟨_, rfl, k⟩)
theorem bc_X2_node_299 {θ : gc_T} {K : gx_K} {P : Option Nat → gc_S → Prop} {T : Nat → gc_S → Prop} {σ : gc_S} {x1 : Int32} {x4 x5 : Option Nat} {a0 n c s bc bs : Nat} (h : gc_K θ K (nX2_node (n + 1) c s)) (k : gc_is σ a0 2 ∧ gc_is σ a0 2 ∧ (((gc_I σ 202 a0) ≤ (gc_I σ 203 a0) → gc_G θ K (nX2_node (n + 1) c s) (gc_Qr P T) 323 [(0, va_rf (some a0)), (1, .int x1), (4, va_rf x4), (5, va_rf x5)] [.int 0] σ bc bs) ∧ (¬ (gc_I σ 202 a0) ≤ (gc_I σ 203 a0) → gc_is σ a0 2 ∧ gc_is σ a0 2 ∧ ∃ a318_1 : Nat, gc_R σ 201 a0 = some a318_1 ∧ gc_is σ a318_1 15 ∧ vp_in (gc_I σ 203 a0) (gc_n σ a318_1) ∧ gc_G θ K (nX2_node (n + 1) c s) (gc_Qr P T) 323 [(0, va_rf (some a0)), (1, .int x1), (4, va_rf x4), (5, va_rf x5)] [.int (gc_E σ a318_1 (gc_I σ 203 a0).toNatClampNeg)] σ bc bs))) : gc_G θ K (nX2_node (n + 1) c s) (gc_Qr P T) 299 [(0, va_rf (some a0)), (1, .int x1), (4, va_rf x4), (5, va_rf x5)] [] σ bc bs := by
  refine gx_aload_nq (r := some a0) h 0 rfl dX2_node_299 ?_
  refine gcg_X2_21 h rfl rfl k.1 dX2_node_300 ?_
  replace k := k.2
  refine gx_aload_nq (r := some a0) h 0 rfl dX2_node_303 ?_
  refine gcg_X2_25 h rfl rfl k.1 dX2_node_304 ?_
  replace k := k.2
  refine gx_icmp_ge (tgt := 322) h (by decide) dX2_node_307 (fun c => ?_) (fun c => ?_)
  · replace k := k.1 c
    refine gx_iconst (v := 0) h dX2_node_322 (by decide) ?_
    exact k
  · replace k := k.2 c
    refine gx_aload_nq (r := some a0) h 0 rfl dX2_node_310 ?_
    refine gcg_X2_28 h rfl rfl k.1 dX2_node_311 ?_
    replace k := k.2
    refine gx_aload_nq (r := some a0) h 0 rfl dX2_node_314 ?_
    refine gcg_X2_21 h rfl rfl k.1 dX2_node_315 ?_
    replace k := k.2
    obtain ⟨a318_1, e318_1, k⟩ := k
    refine gc_baldE (r := gc_R σ 201 a0) h e318_1 k.1 k.2.1 dX2_node_318 ?_
    replace k := k.2.2
    refine gx_goto (tgt := 323) h (by decide) dX2_node_319 ?_
    exact k
theorem bc_X2_node_323 {θ : gc_T} {K : gx_K} {P : Option Nat → gc_S → Prop} {T : Nat → gc_S → Prop} {σ : gc_S} {x1 s0 : Int32} {x4 x5 : Option Nat} {a0 n c s bc bs : Nat} (h : gc_K θ K (nX2_node (n + 1) c s)) (k : ((s0 = 123 → gc_G θ K (nX2_node (n + 1) c s) (gc_Qr P T) 359 [(0, va_rf (some a0)), (1, .int x1), (4, va_rf x4), (5, va_rf x5), (6, .int s0)] [.int 1] σ bc bs) ∧ (¬ s0 = 123 → ((s0 = 60 → gc_G θ K (nX2_node (n + 1) c s) (gc_Qr P T) 359 [(0, va_rf (some a0)), (1, .int x1), (4, va_rf x4), (5, va_rf x5), (6, .int s0)] [.int 2] σ bc bs) ∧ (¬ s0 = 60 → ((s0 = 33 → gc_G θ K (nX2_node (n + 1) c s) (gc_Qr P T) 359 [(0, va_rf (some a0)), (1, .int x1), (4, va_rf x4), (5, va_rf x5), (6, .int s0)] [.int 3] σ bc bs) ∧ (¬ s0 = 33 → gc_G θ K (nX2_node (n + 1) c s) (gc_Qr P T) 359 [(0, va_rf (some a0)), (1, .int x1), (4, va_rf x4), (5, va_rf x5), (6, .int s0)] [.int 0] σ bc bs))))))) : gc_G θ K (nX2_node (n + 1) c s) (gc_Qr P T) 323 [(0, va_rf (some a0)), (1, .int x1), (4, va_rf x4), (5, va_rf x5)] [.int s0] σ bc bs := by
  refine gx_istore (L' := [(6, .int s0), (0, va_rf (some a0)), (1, .int x1), (4, va_rf x4), (5, va_rf x5)]) h (Nat.le_of_ble_eq_true rfl) (by generalize x5 = z; cases z <;> rfl) dX2_node_323 ?_
  refine gx_iload h 0 rfl dX2_node_325 ?_
  refine gx_bipush (v := 123) h dX2_node_327 (by decide) ?_
  refine gx_icmp_ne (tgt := 336) h (by decide) dX2_node_329 (fun c => ?_) (fun c => ?_)
  · replace k := k.2 c
    refine gx_iload h 0 rfl dX2_node_336 ?_
    refine gx_bipush (v := 60) h dX2_node_338 (by decide) ?_
    refine gx_icmp_ne (tgt := 347) h (by decide) dX2_node_340 (fun c => ?_) (fun c => ?_)
    · replace k := k.2 c
      refine gx_iload h 0 rfl dX2_node_347 ?_
      refine gx_bipush (v := 33) h dX2_node_349 (by decide) ?_
      refine gx_icmp_ne (tgt := 358) h (by decide) dX2_node_351 (fun c => ?_) (fun c => ?_)
      · replace k := k.2 c
        refine gx_iconst (v := 0) h dX2_node_358 (by decide) ?_
        exact gx_sub [1, 2, 3, 4, 0] rfl k
      · replace k := k.1 c
        refine gx_iconst (v := 3) h dX2_node_354 (by decide) ?_
        refine gx_goto (tgt := 359) h (by decide) dX2_node_355 ?_
        exact gx_sub [1, 2, 3, 4, 0] rfl k
    · replace k := k.1 c
      refine gx_iconst (v := 2) h dX2_node_343 (by decide) ?_
      refine gx_goto (tgt := 359) h (by decide) dX2_node_344 ?_
      exact gx_sub [1, 2, 3, 4, 0] rfl k
  · replace k := k.1 c
    refine gx_iconst (v := 1) h dX2_node_332 (by decide) ?_
    refine gx_goto (tgt := 359) h (by decide) dX2_node_333 ?_
    exact gx_sub [1, 2, 3, 4, 0] rfl k
theorem bc_X2_node_359 {θ : gc_T} {K : gx_K} {P : Option Nat → gc_S → Prop} {T : Nat → gc_S → Prop} {σ : gc_S} {x1 x6 s0 : Int32} {x4 x5 : Option Nat} {a0 n c s bc bs : Nat} (h : gc_K θ K (nX2_node (n + 1) c s)) (k : ∃ c368 s368 : Nat, (c368 ≤ bc ∧ s368 ≤ bs) ∧ gx_C (gc_O θ) (nX0_made n c368 s368) [.int s0, .int 0, va_rf x4, va_rf x5] σ (gc_Pr (fun r368 σ368 => ((0 < s0 → gc_G θ K (nX2_node (n + 1) c s) (gc_Qr P T) 385 [(0, va_rf (some a0)), (1, .int x1), (6, .int x6), (7, .int s0), (8, va_rf r368)] [] σ368 (bc - c368) (bs - s368)) ∧ (¬ 0 < s0 → ((x6 = 40 → gc_G θ K (nX2_node (n + 1) c s) (gc_Qr P T) 385 [(0, va_rf (some a0)), (1, .int x1), (6, .int x6), (7, .int s0), (8, va_rf r368)] [] σ368 (bc - c368) (bs - s368)) ∧ (¬ x6 = 40 → gc_G θ K (nX2_node (n + 1) c s) (gc_Qr P T) 395 [(0, va_rf (some a0)), (1, .int x1), (6, .int x6), (7, .int s0), (8, va_rf r368)] [] σ368 (bc - c368) (bs - s368)))))))) : gc_G θ K (nX2_node (n + 1) c s) (gc_Qr P T) 359 [(0, va_rf (some a0)), (1, .int x1), (4, va_rf x4), (5, va_rf x5), (6, .int x6)] [.int s0] σ bc bs := by
  refine gx_istore (L' := [(7, .int s0), (0, va_rf (some a0)), (1, .int x1), (4, va_rf x4), (5, va_rf x5), (6, .int x6)]) h (Nat.le_of_ble_eq_true rfl) rfl dX2_node_359 ?_
  refine gx_iload h 0 rfl dX2_node_361 ?_
  refine gx_iconst (v := 0) h dX2_node_363 (by decide) ?_
  refine gx_aloadq (r := x4) h 3 rfl dX2_node_364 ?_
  refine gx_aloadq (r := x5) h 4 rfl dX2_node_366 ?_
  obtain ⟨c368, s368, hb368, k⟩ := k
  refine gcc_X2_78 (a0 := s0) (a1 := 0) (a2 := x4) (a3 := x5) h rfl ⟨Nat.le_refl _, Nat.le_refl _⟩ hb368 (Nat.le_of_ble_eq_true rfl) dX2_node_368 (gx_C.mono k ?_)
  rintro _ σ368 ⟨r368, rfl, k⟩
  refine ⟨r368, rfl, ?_⟩
  refine gx_astoreq (r := r368) (L' := [(8, va_rf r368), (7, .int s0), (0, va_rf (some a0)), (1, .int x1), (4, va_rf x4), (5, va_rf x5), (6, .int x6)]) h (Nat.le_of_ble_eq_true rfl) rfl dX2_node_371 ?_
  refine gx_iload h 1 rfl dX2_node_373 ?_
  refine gx_if_gt (tgt := 385) h (by decide) dX2_node_375 (fun c => ?_) (fun c => ?_)
  · replace k := k.1 c
    exact gx_sub [2, 3, 6, 1, 0] rfl k
  · replace k := k.2 c
    refine gx_iload h 6 rfl dX2_node_378 ?_
    refine gx_bipush (v := 40) h dX2_node_380 (by decide) ?_
    refine gx_icmp_ne (tgt := 395) h (by decide) dX2_node_382 (fun c => ?_) (fun c => ?_)
    · replace k := k.2 c
      exact gx_sub [2, 3, 6, 1, 0] rfl k
    · replace k := k.1 c
      exact gx_sub [2, 3, 6, 1, 0] rfl k
theorem bc_X2_node_385 {θ : gc_T} {K : gx_K} {P : Option Nat → gc_S → Prop} {T : Nat → gc_S → Prop} {σ : gc_S} {x1 x6 x7 : Int32} {x8 : Option Nat} {a0 n c s bc bs : Nat} (h : gc_K θ K (nX2_node (n + 1) c s)) (k : gc_is σ a0 2 ∧ gc_is σ a0 2 ∧ ∀ σ392, σ392 = gc_sI σ 203 a0 ((gc_I σ 203 a0) + 1) → gc_G θ K (nX2_node (n + 1) c s) (gc_Qr P T) 395 [(0, va_rf (some a0)), (1, .int x1), (6, .int x6), (7, .int x7), (8, va_rf x8)] [] σ392 bc bs) : gc_G θ K (nX2_node (n + 1) c s) (gc_Qr P T) 385 [(0, va_rf (some a0)), (1, .int x1), (6, .int x6), (7, .int x7), (8, va_rf x8)] [] σ bc bs := by
  refine gx_aload_nq (r := some a0) h 0 rfl dX2_node_385 ?_
  refine gx_dup h rfl dX2_node_386 ?_
  refine gcg_X2_21 h rfl rfl k.1 dX2_node_387 ?_
  replace k := k.2
  refine gx_iconst (v := 1) h dX2_node_390 (by decide) ?_
  refine gx_iadd h dX2_node_391 ?_
  refine gcp_X2_21 (v := (gc_I σ 203 a0) + 1) h rfl rfl k.1 dX2_node_392 ?_
  generalize hz : gc_sI σ 203 a0 ((gc_I σ 203 a0) + 1) = σ392
  replace k := k.2 σ392 hz.symm
  exact k
theorem bc_X2_node_395 {θ : gc_T} {K : gx_K} {P : Option Nat → gc_S → Prop} {T : Nat → gc_S → Prop} {σ : gc_S} {x1 x6 x7 : Int32} {x8 : Option Nat} {a0 n c s bc bs : Nat} (h : gc_K θ K (nX2_node (n + 1) c s)) (k : ((x7 = 3 → gc_G θ K (nX2_node (n + 1) c s) (gc_Qr P T) 413 [(8, va_rf x8)] [] σ bc bs) ∧ (¬ x7 = 3 → ((x7 = 0 → ((x6 = 40 → gc_G θ K (nX2_node (n + 1) c s) (gc_Qr P T) 416 [(0, va_rf (some a0)), (1, .int x1), (6, .int x6), (7, .int x7), (8, va_rf x8)] [] σ bc bs) ∧ (¬ x6 = 40 → gc_G θ K (nX2_node (n + 1) c s) (gc_Qr P T) 413 [(8, va_rf x8)] [] σ bc bs))) ∧ (¬ x7 = 0 → gc_G θ K (nX2_node (n + 1) c s) (gc_Qr P T) 416 [(0, va_rf (some a0)), (1, .int x1), (6, .int x6), (7, .int x7), (8, va_rf x8)] [] σ bc bs))))) : gc_G θ K (nX2_node (n + 1) c s) (gc_Qr P T) 395 [(0, va_rf (some a0)), (1, .int x1), (6, .int x6), (7, .int x7), (8, va_rf x8)] [] σ bc bs := by
  refine gx_iload h 3 rfl dX2_node_395 ?_
  refine gx_iconst (v := 3) h dX2_node_397 (by decide) ?_
  refine gx_icmp_eq (tgt := 413) h (by decide) dX2_node_398 (fun c => ?_) (fun c => ?_)
  · replace k := k.1 c
    exact gx_sub [4] rfl k
  · replace k := k.2 c
    refine gx_iload h 3 rfl dX2_node_401 ?_
    refine gx_if_ne (tgt := 416) h (by decide) dX2_node_403 (fun c => ?_) (fun c => ?_)
    · replace k := k.2 c
      exact k
    · replace k := k.1 c
      refine gx_iload h 2 rfl dX2_node_406 ?_
      refine gx_bipush (v := 40) h dX2_node_408 (by decide) ?_
      refine gx_icmp_eq (tgt := 416) h (by decide) dX2_node_410 (fun c => ?_) (fun c => ?_)
      · replace k := k.1 c
        exact k
      · replace k := k.2 c
        exact gx_sub [4] rfl k
theorem bc_X2_node_413 {θ : gc_T} {K : gx_K} {P : Option Nat → gc_S → Prop} {T : Nat → gc_S → Prop} {σ : gc_S} {x8 : Option Nat} {n c s bc bs : Nat} (h : gc_K θ K (nX2_node (n + 1) c s)) (k : P x8 σ) : gc_G θ K (nX2_node (n + 1) c s) (gc_Qr P T) 413 [(8, va_rf x8)] [] σ bc bs := by
  refine gx_aloadq (r := x8) h 0 rfl dX2_node_413 ?_
  exact gx_aret (r := x8) h rfl (Or.inl ⟨_, rfl⟩) dX2_node_415 (Or.inl ⟨_, rfl, k⟩)
theorem bc_X2_node_416 {θ : gc_T} {K : gx_K} {P : Option Nat → gc_S → Prop} {T : Nat → gc_S → Prop} {σ : gc_S} {x1 x6 x7 : Int32} {x8 : Option Nat} {a0 n c s bc bs : Nat} (h : gc_K θ K (nX2_node (n + 1) c s)) (k : ((x6 = 40 → gc_G θ K (nX2_node (n + 1) c s) (gc_Qr P T) 442 [(0, va_rf (some a0)), (1, .int x1), (7, .int x7), (8, va_rf x8)] [.int 41] σ bc bs) ∧ (¬ x6 = 40 → ((x6 = 123 → gc_G θ K (nX2_node (n + 1) c s) (gc_Qr P T) 442 [(0, va_rf (some a0)), (1, .int x1), (7, .int x7), (8, va_rf x8)] [.int 125] σ bc bs) ∧ (¬ x6 = 123 → gc_G θ K (nX2_node (n + 1) c s) (gc_Qr P T) 442 [(0, va_rf (some a0)), (1, .int x1), (7, .int x7), (8, va_rf x8)] [.int 62] σ bc bs))))) : gc_G θ K (nX2_node (n + 1) c s) (gc_Qr P T) 416 [(0, va_rf (some a0)), (1, .int x1), (6, .int x6), (7, .int x7), (8, va_rf x8)] [] σ bc bs := by
  refine gx_iload h 2 rfl dX2_node_416 ?_
  refine gx_bipush (v := 40) h dX2_node_418 (by decide) ?_
  refine gx_icmp_ne (tgt := 428) h (by decide) dX2_node_420 (fun c => ?_) (fun c => ?_)
  · replace k := k.2 c
    refine gx_iload h 2 rfl dX2_node_428 ?_
    refine gx_bipush (v := 123) h dX2_node_430 (by decide) ?_
    refine gx_icmp_ne (tgt := 440) h (by decide) dX2_node_432 (fun c => ?_) (fun c => ?_)
    · replace k := k.2 c
      refine gx_bipush (v := 62) h dX2_node_440 (by decide) ?_
      exact gx_sub [0, 1, 3, 4] rfl k
    · replace k := k.1 c
      refine gx_bipush (v := 125) h dX2_node_435 (by decide) ?_
      refine gx_goto (tgt := 442) h (by decide) dX2_node_437 ?_
      exact gx_sub [0, 1, 3, 4] rfl k
  · replace k := k.1 c
    refine gx_bipush (v := 41) h dX2_node_423 (by decide) ?_
    refine gx_goto (tgt := 442) h (by decide) dX2_node_425 ?_
    exact gx_sub [0, 1, 3, 4] rfl k
theorem bc_X2_node_442 {θ : gc_T} {K : gx_K} {P : Option Nat → gc_S → Prop} {T : Nat → gc_S → Prop} {σ : gc_S} {x1 x7 s0 : Int32} {x8 : Option Nat} {a0 n c s bc bs : Nat} (h : gc_K θ K (nX2_node (n + 1) c s)) (k : ((x7 ≤ 0 → gc_G θ K (nX2_node (n + 1) c s) (gc_Qr P T) 461 [(0, va_rf (some a0)), (1, .int x1), (7, .int x7), (8, va_rf x8), (9, .int s0)] [] σ bc bs) ∧ (¬ x7 ≤ 0 → gc_is σ a0 2 ∧ gx_C (gc_O θ) (nX2_takes n) (.ref a0 :: [.int s0]) σ (gc_Pi (fun r452 σ452 => ((r452 = 0 → gc_G θ K (nX2_node (n + 1) c s) (gc_Qr P T) 461 [(0, va_rf (some a0)), (1, .int x1), (7, .int x7), (8, va_rf x8), (9, .int s0)] [] σ452 bc bs) ∧ (¬ r452 = 0 → P x8 σ452))))))) : gc_G θ K (nX2_node (n + 1) c s) (gc_Qr P T) 442 [(0, va_rf (some a0)), (1, .int x1), (7, .int x7), (8, va_rf x8)] [.int s0] σ bc bs := by
  refine gx_istore (L' := [(9, .int s0), (0, va_rf (some a0)), (1, .int x1), (7, .int x7), (8, va_rf x8)]) h (Nat.le_of_ble_eq_true rfl) (by generalize x8 = z; cases z <;> rfl) dX2_node_442 ?_
  refine gx_iload h 3 rfl dX2_node_444 ?_
  refine gx_if_le (tgt := 461) h (by decide) dX2_node_446 (fun c => ?_) (fun c => ?_)
  · replace k := k.1 c
    exact gx_sub [1, 2, 3, 4, 0] rfl k
  · replace k := k.2 c
    refine gx_aload_nq (r := some a0) h 1 rfl dX2_node_449 ?_
    refine gx_iload h 0 rfl dX2_node_450 ?_
    refine gcc_X2_72 (r := some a0) (a0 := s0) h rfl ⟨Nat.le_refl _, Nat.le_refl _⟩ rfl k.1 (Nat.le_of_ble_eq_true rfl) dX2_node_452 (gx_C.mono k.2 ?_)
    rintro _ σ452 ⟨r452, rfl, k⟩
    refine ⟨r452, rfl, ?_⟩
    refine gx_if_eq (tgt := 461) h (by decide) dX2_node_455 (fun c => ?_) (fun c => ?_)
    · replace k := k.1 c
      exact gx_sub [1, 2, 3, 4, 0] rfl k
    · replace k := k.2 c
      refine gx_aloadq (r := x8) h 4 rfl dX2_node_458 ?_
      exact gx_aret (r := x8) h rfl (Or.inl ⟨_, rfl⟩) dX2_node_460 (Or.inl ⟨_, rfl, k⟩)
theorem bc_X2_node_461 {θ : gc_T} {K : gx_K} {P : Option Nat → gc_S → Prop} {T : Nat → gc_S → Prop} {σ : gc_S} {x1 x7 x9 : Int32} {x8 : Option Nat} {a0 n c s bc bs : Nat} (h : gc_K θ K (nX2_node (n + 1) c s)) (k : ((x7 = 2 → ∃ a475_1 : Nat, x8 = some a475_1 ∧ gc_isN σ a475_1 ∧ gc_G θ K (nX2_node (n + 1) c s) (gc_Qr P T) 482 [(0, va_rf (some a0)), (1, .int x1), (7, .int x7), (8, va_rf x8), (9, .int x9)] [va_rf (gc_R σ 804 a475_1), .int (x1 + 1), va_rf (some a0), va_rf x8] σ bc bs) ∧ (¬ x7 = 2 → gc_G θ K (nX2_node (n + 1) c s) (gc_Qr P T) 482 [(0, va_rf (some a0)), (1, .int x1), (7, .int x7), (8, va_rf x8), (9, .int x9)] [va_rf none, .int (x1 + 1), va_rf (some a0), va_rf x8] σ bc bs))) : gc_G θ K (nX2_node (n + 1) c s) (gc_Qr P T) 461 [(0, va_rf (some a0)), (1, .int x1), (7, .int x7), (8, va_rf x8), (9, .int x9)] [] σ bc bs := by
  refine gx_aloadq (r := x8) h 3 rfl dX2_node_461 ?_
  refine gx_aload_nq (r := some a0) h 0 rfl dX2_node_463 ?_
  refine gx_iload_n h 1 rfl dX2_node_464 ?_
  refine gx_iconst (v := 1) h dX2_node_465 (by decide) ?_
  refine gx_iadd h dX2_node_466 ?_
  refine gx_iload h 2 rfl dX2_node_467 ?_
  refine gx_iconst (v := 2) h dX2_node_469 (by decide) ?_
  refine gx_icmp_ne (tgt := 481) h (by decide) dX2_node_470 (fun c => ?_) (fun c => ?_)
  · replace k := k.2 c
    refine gx_null h dX2_node_481 ?_
    exact k
  · replace k := k.1 c
    refine gx_aloadq (r := x8) h 3 rfl dX2_node_473 ?_
    obtain ⟨a475_1, e475_1, k⟩ := k
    refine gcg_X2_82 h rfl e475_1 k.1 dX2_node_475 ?_
    replace k := k.2
    refine gx_goto (tgt := 482) h (by decide) dX2_node_478 ?_
    exact k
theorem bc_X2_node_482 {θ : gc_T} {K : gx_K} {P : Option Nat → gc_S → Prop} {T : Nat → gc_S → Prop} {σ : gc_S} {x1 x7 x9 s1 : Int32} {x8 s0 s2 s3 : Option Nat} {a0 n c s bc bs : Nat} (h : gc_K θ K (nX2_node (n + 1) c s)) (k : ∃ a482_1 : Nat, s2 = some a482_1 ∧ ∃ c482 s482 : Nat, (c482 ≤ bc ∧ s482 ≤ bs) ∧ gc_is σ a482_1 2 ∧ gx_C (gc_O θ) (nX2_node n c482 s482) (.ref a482_1 :: [.int s1, va_rf s0]) σ (gc_Qr (fun r482 σ482 => ∃ a485_2 : Nat, s3 = some a485_2 ∧ ∃ c485 s485 : Nat, (c485 ≤ (bc - c482) ∧ s485 ≤ (bs - s482)) ∧ gc_isN σ482 a485_2 ∧ vC_add θ n c485 s485 σ482 a485_2 [va_rf r482] (gc_Pv (fun σ485 => gc_is σ485 a0 2 ∧ gx_C (gc_O θ) (nX2_takes n) (.ref a0 :: [.int 44]) σ485 (gc_Pi (fun r491 σ491 => ((r491 = 0 → gc_is σ491 a0 2 ∧ gx_C (gc_O θ) (nX2_takes n) (.ref a0 :: [.int x9]) σ491 (gc_Pi (fun r500 σ500 => ((r500 = 0 → gc_is σ500 a0 2 ∧ gc_is σ500 a0 2 ∧ gx_C (gc_O θ) (nX2_wrong n) (.ref a0 :: [.int (gc_I σ500 203 a0)]) σ500 (gc_Pr (fun r511 σ511 => ∃ a514_3 : Nat, r511 = some a514_3 ∧ T a514_3 σ511))) ∧ (¬ r500 = 0 → P x8 σ500))))) ∧ (¬ r491 = 0 → gc_G θ K (nX2_node (n + 1) c s) (gc_Qr P T) 461 [(0, va_rf (some a0)), (1, .int x1), (7, .int x7), (8, va_rf x8), (9, .int x9)] [] σ491 ((bc - c482) - c485) ((bs - s482) - s485)))))))) (fun a482 σ482 => T a482 σ482))) : gc_G θ K (nX2_node (n + 1) c s) (gc_Qr P T) 482 [(0, va_rf (some a0)), (1, .int x1), (7, .int x7), (8, va_rf x8), (9, .int x9)] [va_rf s0, .int s1, va_rf s2, va_rf s3] σ bc bs := by
  obtain ⟨a482_1, e482_1, k⟩ := k
  obtain ⟨c482, s482, hb482, k⟩ := k
  refine gcc_X2_35 (r := s2) (a0 := s1) (a1 := s0) h rfl ⟨Nat.le_refl _, Nat.le_refl _⟩ hb482 e482_1 k.1 (by simp only [List.map_cons, List.map_nil, List.sum_cons, List.sum_nil, gx_cat]; exact Nat.le_of_ble_eq_true rfl) dX2_node_482 (gx_C.mono k.2 ?_)
  rintro o σ482 (⟨r482, rfl, k⟩ | ⟨a482, rfl, k⟩)
  · refine Or.inl ⟨r482, rfl, ?_⟩
    obtain ⟨a485_2, e485_2, k⟩ := k
    obtain ⟨c485, s485, hb485, k⟩ := k
    refine gcc_X2_86 (r := s3) (a0 := r482) h rfl ⟨Nat.le_refl _, Nat.le_refl _⟩ hb485 e485_2 k.1 (Nat.le_of_ble_eq_true rfl) dX2_node_485 (vC_add_mono k.2 ?_)
    rintro _ σ485 ⟨rfl, k⟩
    refine ⟨rfl, ?_⟩
    refine gx_aload_nq (r := some a0) h 0 rfl dX2_node_488 ?_
    refine gx_bipush (v := 44) h dX2_node_489 (by decide) ?_
    refine gcc_X2_72 (r := some a0) (a0 := 44) h rfl ⟨Nat.le_refl _, Nat.le_refl _⟩ rfl k.1 (Nat.le_of_ble_eq_true rfl) dX2_node_491 (gx_C.mono k.2 ?_)
    rintro _ σ491 ⟨r491, rfl, k⟩
    refine ⟨r491, rfl, ?_⟩
    refine gx_if_ne (tgt := 461) h (by decide) dX2_node_494 (fun c => ?_) (fun c => ?_)
    · replace k := k.2 c
      exact k
    · replace k := k.1 c
      refine gx_aload_nq (r := some a0) h 0 rfl dX2_node_497 ?_
      refine gx_iload h 4 rfl dX2_node_498 ?_
      refine gcc_X2_72 (r := some a0) (a0 := x9) h rfl ⟨Nat.le_refl _, Nat.le_refl _⟩ rfl k.1 (Nat.le_of_ble_eq_true rfl) dX2_node_500 (gx_C.mono k.2 ?_)
      rintro _ σ500 ⟨r500, rfl, k⟩
      refine ⟨r500, rfl, ?_⟩
      refine gx_if_ne (tgt := 515) h (by decide) dX2_node_503 (fun c => ?_) (fun c => ?_)
      · replace k := k.2 c
        refine gx_aloadq (r := x8) h 3 rfl dX2_node_515 ?_
        exact gx_aret (r := x8) h rfl (Or.inl ⟨_, rfl⟩) dX2_node_517 (Or.inl ⟨_, rfl, k⟩)
      · replace k := k.1 c
        refine gx_aload_nq (r := some a0) h 0 rfl dX2_node_506 ?_
        refine gx_aload_nq (r := some a0) h 0 rfl dX2_node_507 ?_
        refine gcg_X2_21 h rfl rfl k.1 dX2_node_508 ?_
        replace k := k.2
        refine gcc_X2_39 (r := some a0) (a0 := gc_I σ500 203 a0) h rfl ⟨Nat.le_refl _, Nat.le_refl _⟩ rfl k.1 (Nat.le_of_ble_eq_true rfl) dX2_node_511 (gx_C.mono k.2 ?_)
        rintro _ σ511 ⟨r511, rfl, k⟩
        refine ⟨r511, rfl, ?_⟩
        obtain ⟨a514_3, e514_3, k⟩ := k
        refine gc_athrow (r := r511) h e514_3 dX2_node_514 ?_
        exact gx_out h rfl (Or.inr ⟨_, rfl, k⟩)
  · refine Or.inr ⟨a482, rfl, ?_⟩
    exact gx_out h rfl (Or.inr ⟨_, rfl, k⟩)
/-! X2.wrong -/
theorem ec_X2_wrong {θ : gc_T} {P : Option Nat → gc_S → Prop} {σ : gc_S} {n : Nat} {a0 : Nat} {x1 : Int32} (body : ∀ K, gc_K θ K (nX2_wrong (n + 1)) → gc_G θ K (nX2_wrong (n + 1)) (gc_Pr P) 0 [(0, va_rf (some a0)), (1, .int x1)] [] σ 0 0) : gx_C (gc_O θ) (nX2_wrong (n + 1)) [.ref a0, .int x1] σ (gc_Pr P) :=
  gx_C.intro (gc_z_warm θ) rfl (Nat.le_of_ble_eq_true rfl) body
theorem bc_X2_wrong_0 {θ : gc_T} {K : gx_K} {P : Option Nat → gc_S → Prop} {σ : gc_S} {x1 : Int32} {a0 n bc bs : Nat} (h : gc_K θ K (nX2_wrong (n + 1))) (k : gc_is σ a0 2 ∧ ∃ a8_1 : Nat, gc_R σ 200 a0 = some a8_1 ∧ gc_is σ a8_1 1 ∧ gx_C (gc_O θ) (nX1_of n) (.ref a8_1 :: [.int ((-10) - x1)]) σ (gc_Pr (fun r8 σ8 => P r8 σ8))) : gc_G θ K (nX2_wrong (n + 1)) (gc_Pr P) 0 [(0, va_rf (some a0)), (1, .int x1)] [] σ bc bs := by
  refine gx_aload_nq (r := some a0) h 0 rfl dX2_wrong_0 ?_
  refine gcg_X2_9 h rfl rfl k.1 dX2_wrong_1 ?_
  replace k := k.2
  refine gx_bipush (v := (-10)) h dX2_wrong_4 (by decide) ?_
  refine gx_iload_n h 1 rfl dX2_wrong_6 ?_
  refine gx_isub h dX2_wrong_7 ?_
  obtain ⟨a8_1, e8_1, k⟩ := k
  refine gcc_X2_15 (r := gc_R σ 200 a0) (a0 := (-10) - x1) h rfl ⟨Nat.le_refl _, Nat.le_refl _⟩ e8_1 k.1 (Nat.le_of_ble_eq_true rfl) dX2_wrong_8 (gx_C.mono k.2 ?_)
  rintro _ σ8 ⟨r8, rfl, k⟩
  refine ⟨r8, rfl, ?_⟩
  exact gx_aret (r := r8) h rfl (Or.inl ⟨_, rfl⟩) dX2_wrong_11 (⟨_, rfl, k⟩)
/-! X2.takes -/
theorem ec_X2_takes {θ : gc_T} {P : Int32 → gc_S → Prop} {σ : gc_S} {n : Nat} {a0 : Nat} {x1 : Int32} (body : ∀ K, gc_K θ K (nX2_takes n) → gc_G θ K (nX2_takes n) (gc_Pi P) 0 [(0, va_rf (some a0)), (1, .int x1)] [] σ 0 0) : gx_C (gc_O θ) (nX2_takes n) [.ref a0, .int x1] σ (gc_Pi P) :=
  gx_C.intro (gc_z_warm θ) rfl (Nat.le_of_ble_eq_true rfl) body
theorem bc_X2_takes_0 {θ : gc_T} {K : gx_K} {P : Int32 → gc_S → Prop} {σ : gc_S} {x1 : Int32} {a0 n bc bs : Nat} (h : gc_K θ K (nX2_takes n)) (k : gc_is σ a0 2 ∧ gc_is σ a0 2 ∧ (((gc_I σ 203 a0) = (gc_I σ 202 a0) → gc_G θ K (nX2_takes n) (gc_Pi P) 24 [] [] σ bc bs) ∧ (¬ (gc_I σ 203 a0) = (gc_I σ 202 a0) → gc_is σ a0 2 ∧ gc_is σ a0 2 ∧ ∃ a19_1 : Nat, gc_R σ 201 a0 = some a19_1 ∧ gc_is σ a19_1 15 ∧ vp_in (gc_I σ 203 a0) (gc_n σ a19_1) ∧ (((gc_E σ a19_1 (gc_I σ 203 a0).toNatClampNeg) = x1 → gc_is σ a0 2 ∧ gc_is σ a0 2 ∧ ∀ σ33, σ33 = gc_sI σ 203 a0 ((gc_I σ 203 a0) + 1) → P 1 σ33) ∧ (¬ (gc_E σ a19_1 (gc_I σ 203 a0).toNatClampNeg) = x1 → gc_G θ K (nX2_takes n) (gc_Pi P) 24 [] [] σ bc bs))))) : gc_G θ K (nX2_takes n) (gc_Pi P) 0 [(0, va_rf (some a0)), (1, .int x1)] [] σ bc bs := by
  refine gx_aload_nq (r := some a0) h 0 rfl dX2_takes_0 ?_
  refine gcg_X2_21 h rfl rfl k.1 dX2_takes_1 ?_
  replace k := k.2
  refine gx_aload_nq (r := some a0) h 0 rfl dX2_takes_4 ?_
  refine gcg_X2_25 h rfl rfl k.1 dX2_takes_5 ?_
  replace k := k.2
  refine gx_icmp_eq (tgt := 24) h (by decide) dX2_takes_8 (fun c => ?_) (fun c => ?_)
  · replace k := k.1 c
    exact gx_sub [] rfl k
  · replace k := k.2 c
    refine gx_aload_nq (r := some a0) h 0 rfl dX2_takes_11 ?_
    refine gcg_X2_28 h rfl rfl k.1 dX2_takes_12 ?_
    replace k := k.2
    refine gx_aload_nq (r := some a0) h 0 rfl dX2_takes_15 ?_
    refine gcg_X2_21 h rfl rfl k.1 dX2_takes_16 ?_
    replace k := k.2
    obtain ⟨a19_1, e19_1, k⟩ := k
    refine gc_baldE (r := gc_R σ 201 a0) h e19_1 k.1 k.2.1 dX2_takes_19 ?_
    replace k := k.2.2
    refine gx_iload_n h 1 rfl dX2_takes_20 ?_
    refine gx_icmp_eq (tgt := 26) h (by decide) dX2_takes_21 (fun c => ?_) (fun c => ?_)
    · replace k := k.1 c
      refine gx_aload_nq (r := some a0) h 0 rfl dX2_takes_26 ?_
      refine gx_dup h rfl dX2_takes_27 ?_
      refine gcg_X2_21 h rfl rfl k.1 dX2_takes_28 ?_
      replace k := k.2
      refine gx_iconst (v := 1) h dX2_takes_31 (by decide) ?_
      refine gx_iadd h dX2_takes_32 ?_
      refine gcp_X2_21 (v := (gc_I σ 203 a0) + 1) h rfl rfl k.1 dX2_takes_33 ?_
      generalize hz : gc_sI σ 203 a0 ((gc_I σ 203 a0) + 1) = σ33
      replace k := k.2 σ33 hz.symm
      refine gx_iconst (v := 1) h dX2_takes_36 (by decide) ?_
      exact gx_zret h rfl rfl dX2_takes_37 (⟨_, rfl, k⟩)
    · replace k := k.2 c
      exact gx_sub [] rfl k
theorem bc_X2_takes_24 {θ : gc_T} {K : gx_K} {P : Int32 → gc_S → Prop} {σ : gc_S} {n bc bs : Nat} (h : gc_K θ K (nX2_takes n)) (k : P 0 σ) : gc_G θ K (nX2_takes n) (gc_Pi P) 24 [] [] σ bc bs := by
  refine gx_iconst (v := 0) h dX2_takes_24 (by decide) ?_
  exact gx_zret h rfl rfl dX2_takes_25 (⟨_, rfl, k⟩)
/-! X3.init -/
theorem ec_X3_init {θ : gc_T} {P : gc_S → Prop} {σ : gc_S} {n c s : Nat} {a0 : Nat} (body : ∀ K, gc_K θ K (nX3_init (n + 1) c s) → gc_G θ K (nX3_init (n + 1) c s) (gc_Pv P) 0 [(0, va_rf (some a0))] [] σ c s) : gx_C (gc_O θ) (nX3_init (n + 1) c s) [.ref a0] σ (gc_Pv P) :=
  gx_C.intro (gc_z_warm θ) rfl (Nat.le_of_ble_eq_true rfl) body
theorem bc_X3_init_0 {θ : gc_T} {K : gx_K} {P : gc_S → Prop} {σ : gc_S} {a0 n c s bc bs : Nat} (h : gc_K θ K (nX3_init (n + 1) c s)) (k : ¬ (800 : Int32) < 0 ∧ (800 : Int32).toNatClampNeg ≤ 100000 ∧ 1 ≤ bc ∧ (800 : Int32).toNatClampNeg ≤ bs ∧ ∀ q8, q8 ∉ gc_d σ → gc_A θ q8 → ∀ σ8, σ8 = gc_new σ q8 15 (800 : Int32).toNatClampNeg → gc_is σ8 a0 3 ∧ ∀ σ10, σ10 = gc_sR σ8 300 a0 (some q8) → P σ10) : gc_G θ K (nX3_init (n + 1) c s) (gc_Pv P) 0 [(0, va_rf (some a0))] [] σ bc bs := by
  refine gx_aload_nq (r := some a0) h 0 rfl dX3_init_0 ?_
  refine gcc_X3_3 (n := n) (r := some a0) h rfl ⟨Nat.le_refl _, Nat.le_refl _⟩ rfl (Nat.le_of_ble_eq_true rfl) dX3_init_1 ?_
  refine gx_aload_nq (r := some a0) h 0 rfl dX3_init_4 ?_
  refine gx_sipush (v := 800) h dX3_init_5 (by decide) ?_
  refine gc_newa (atype := .byte) (k := 15) (t := 1) (ty := .byte) (by decide) (by decide) rfl rfl rfl (by decide) q213 h k.1 k.2.1 dX3_init_8 k.2.2.1 k.2.2.2.1 (fun q8 hq hA => ?_)
  generalize hz : gc_new σ q8 15 (800 : Int32).toNatClampNeg = σ8
  replace k := k.2.2.2.2 q8 hq hA σ8 hz.symm
  refine gcp_X3_9 (v := some q8) h rfl rfl rfl k.1 dX3_init_10 ?_
  generalize hz : gc_sR σ8 300 a0 (some q8) = σ10
  replace k := k.2 σ10 hz.symm
  exact gx_vret h rfl dX3_init_13 (⟨rfl, k⟩)
/-! X3.node -/
theorem ec_X3_node {θ : gc_T} {P : gc_S → Prop} {σ : gc_S} {n : Nat} {a0 : Nat} {x1 : Option Nat} (body : ∀ K, gc_K θ K (nX3_node (n + 1)) → gc_G θ K (nX3_node (n + 1)) (gc_Pv P) 0 [(0, va_rf (some a0)), (1, va_rf x1)] [] σ 0 0) : gx_C (gc_O θ) (nX3_node (n + 1)) [.ref a0, va_rf x1] σ (gc_Pv P) := by
  refine gx_C.intro (gc_z_warm θ) rfl (by cases x1 <;> exact Nat.le_of_ble_eq_true rfl) (fun K h => ?_)
  have k := body K h
  cases x1 <;> exact k
theorem bc_X3_node_0 {θ : gc_T} {K : gx_K} {P : gc_S → Prop} {σ : gc_S} {x1 : Option Nat} {a0 n bc bs : Nat} (h : gc_K θ K (nX3_node (n + 1))) (k : ∃ a2_1 : Nat, x1 = some a2_1 ∧ gc_isN σ a2_1 ∧ gc_is σ a0 3 ∧ gx_C (gc_O θ) (nX3_say n) (.ref a0 :: [va_rf (gc_R σ 801 a2_1)]) σ (gc_Pv (fun σ5 => gc_isN σ5 a2_1 ∧ ∃ a12_2 : Nat, gc_R σ5 802 a2_1 = some a12_2 ∧ gc_isB θ σ5 a12_2 ∧ (((Int32.ofNat (gc_n σ5 a12_2)) ≤ 0 → gc_G θ K (nX3_node (n + 1)) (gc_Pv P) 22 [(0, va_rf (some a0)), (1, va_rf x1)] [] σ5 bc bs) ∧ (¬ (Int32.ofNat (gc_n σ5 a12_2)) ≤ 0 → gc_is σ5 a0 3 ∧ gx_C (gc_O θ) (nX3_say_2 n) (.ref a0 :: [.int 61]) σ5 (gc_Pv (fun σ19 => gc_G θ K (nX3_node (n + 1)) (gc_Pv P) 22 [(0, va_rf (some a0)), (1, va_rf x1)] [] σ19 bc bs))))))) : gc_G θ K (nX3_node (n + 1)) (gc_Pv P) 0 [(0, va_rf (some a0)), (1, va_rf x1)] [] σ bc bs := by
  refine gx_aload_nq (r := some a0) h 0 rfl dX3_node_0 ?_
  refine gx_aload_nq (r := x1) h 1 rfl dX3_node_1 ?_
  obtain ⟨a2_1, e2_1, k⟩ := k
  refine gcg_X3_23 h rfl e2_1 k.1 dX3_node_2 ?_
  replace k := k.2
  refine gcc_X3_28 (r := some a0) (a0 := gc_R σ 801 a2_1) h rfl ⟨Nat.le_refl _, Nat.le_refl _⟩ rfl k.1 (Nat.le_of_ble_eq_true rfl) dX3_node_5 (gx_C.mono k.2 ?_)
  rintro _ σ5 ⟨rfl, k⟩
  refine ⟨rfl, ?_⟩
  refine gx_aload_nq (r := x1) h 1 rfl dX3_node_8 ?_
  refine gcg_X3_31 h rfl e2_1 k.1 dX3_node_9 ?_
  replace k := k.2
  obtain ⟨a12_2, e12_2, k⟩ := k
  refine gc_alen15E (r := gc_R σ5 802 a2_1) h e12_2 k.1 dX3_node_12 ?_
  replace k := k.2
  refine gx_if_le (tgt := 22) h (by decide) dX3_node_13 (fun c => ?_) (fun c => ?_)
  · replace k := k.1 c
    exact k
  · replace k := k.2 c
    refine gx_aload_nq (r := some a0) h 0 rfl dX3_node_16 ?_
    refine gx_bipush (v := 61) h dX3_node_17 (by decide) ?_
    refine gcc_X3_19 (r := some a0) (a0 := 61) h rfl ⟨Nat.le_refl _, Nat.le_refl _⟩ rfl k.1 (Nat.le_of_ble_eq_true rfl) dX3_node_19 (gx_C.mono k.2 ?_)
    rintro _ σ19 ⟨rfl, k⟩
    refine ⟨rfl, ?_⟩
    exact k
theorem bc_X3_node_22 {θ : gc_T} {K : gx_K} {P : gc_S → Prop} {σ : gc_S} {x1 : Option Nat} {a0 n bc bs : Nat} (h : gc_K θ K (nX3_node (n + 1))) (k : ∃ a24_1 : Nat, x1 = some a24_1 ∧ gc_isN σ a24_1 ∧ gc_is σ a0 3 ∧ gx_C (gc_O θ) (nX3_say n) (.ref a0 :: [va_rf (gc_R σ 802 a24_1)]) σ (gc_Pv (fun σ27 => gc_isN σ27 a24_1 ∧ vC_open θ n σ27 a24_1 [va_rf (some a0)] (gc_Pv (fun σ32 => gc_G θ K (nX3_node (n + 1)) (gc_Pv P) 37 [(0, va_rf (some a0)), (1, va_rf x1), (2, .int 0)] [] σ32 bc bs))))) : gc_G θ K (nX3_node (n + 1)) (gc_Pv P) 22 [(0, va_rf (some a0)), (1, va_rf x1)] [] σ bc bs := by
  refine gx_aload_nq (r := some a0) h 0 rfl dX3_node_22 ?_
  refine gx_aload_nq (r := x1) h 1 rfl dX3_node_23 ?_
  obtain ⟨a24_1, e24_1, k⟩ := k
  refine gcg_X3_31 h rfl e24_1 k.1 dX3_node_24 ?_
  replace k := k.2
  refine gcc_X3_28 (r := some a0) (a0 := gc_R σ 802 a24_1) h rfl ⟨Nat.le_refl _, Nat.le_refl _⟩ rfl k.1 (Nat.le_of_ble_eq_true rfl) dX3_node_27 (gx_C.mono k.2 ?_)
  rintro _ σ27 ⟨rfl, k⟩
  refine ⟨rfl, ?_⟩
  refine gx_aload_nq (r := x1) h 1 rfl dX3_node_30 ?_
  refine gx_aload_nq (r := some a0) h 0 rfl dX3_node_31 ?_
  refine gcc_X3_34 (r := x1) (a0 := some a0) h rfl ⟨Nat.le_refl _, Nat.le_refl _⟩ e24_1 k.1 (Nat.le_of_ble_eq_true rfl) dX3_node_32 (vC_open_mono k.2 ?_)
  rintro _ σ32 ⟨rfl, k⟩
  refine ⟨rfl, ?_⟩
  refine gx_iconst (v := 0) h dX3_node_35 (by decide) ?_
  refine gx_istore_n (L' := [(2, .int 0), (0, va_rf (some a0)), (1, va_rf x1)]) h (Nat.le_of_ble_eq_true rfl) (by generalize x1 = z; cases z <;> rfl) dX3_node_36 ?_
  exact gx_sub [1, 2, 0] rfl k
theorem bc_X3_node_37 {θ : gc_T} {K : gx_K} {P : gc_S → Prop} {σ : gc_S} {x2 : Int32} {x1 : Option Nat} {a0 n bc bs : Nat} (h : gc_K θ K (nX3_node (n + 1))) (k : ∃ a39_1 : Nat, x1 = some a39_1 ∧ gc_isN σ a39_1 ∧ ∃ a42_2 : Nat, gc_R σ 804 a39_1 = some a42_2 ∧ gc_is σ a42_2 12 ∧ gx_C (gc_O θ) (nJ5_size n) (.ref a42_2 :: []) σ (gc_Pi (fun r42 σ42 => ((r42 ≤ x2 → gc_isN σ42 a39_1 ∧ vC_close θ n σ42 a39_1 [va_rf (some a0)] (gc_Pv (fun σ81 => P σ81))) ∧ (¬ r42 ≤ x2 → ((x2 ≤ 0 → gc_G θ K (nX3_node (n + 1)) (gc_Pv P) 58 [(0, va_rf (some a0)), (1, va_rf x1), (2, .int x2)] [] σ42 bc bs) ∧ (¬ x2 ≤ 0 → gc_is σ42 a0 3 ∧ gx_C (gc_O θ) (nX3_say_2 n) (.ref a0 :: [.int 44]) σ42 (gc_Pv (fun σ55 => gc_G θ K (nX3_node (n + 1)) (gc_Pv P) 58 [(0, va_rf (some a0)), (1, va_rf x1), (2, .int x2)] [] σ55 bc bs))))))))) : gc_G θ K (nX3_node (n + 1)) (gc_Pv P) 37 [(0, va_rf (some a0)), (1, va_rf x1), (2, .int x2)] [] σ bc bs := by
  refine gx_iload_n h 2 rfl dX3_node_37 ?_
  refine gx_aload_nq (r := x1) h 1 rfl dX3_node_38 ?_
  obtain ⟨a39_1, e39_1, k⟩ := k
  refine gcg_X3_38 h rfl e39_1 k.1 dX3_node_39 ?_
  replace k := k.2
  obtain ⟨a42_2, e42_2, k⟩ := k
  refine gcc_X3_42 (r := gc_R σ 804 a39_1)  h rfl ⟨Nat.le_refl _, Nat.le_refl _⟩ e42_2 k.1 (Nat.le_of_ble_eq_true rfl) dX3_node_42 (gx_C.mono k.2 ?_)
  rintro _ σ42 ⟨r42, rfl, k⟩
  refine ⟨r42, rfl, ?_⟩
  refine gx_icmp_ge (tgt := 79) h (by decide) dX3_node_45 (fun c => ?_) (fun c => ?_)
  · replace k := k.1 c
    refine gx_aload_nq (r := x1) h 1 rfl dX3_node_79 ?_
    refine gx_aload_nq (r := some a0) h 0 rfl dX3_node_80 ?_
    refine gcc_X3_55 (r := x1) (a0 := some a0) h rfl ⟨Nat.le_refl _, Nat.le_refl _⟩ e39_1 k.1 (Nat.le_of_ble_eq_true rfl) dX3_node_81 (vC_close_mono k.2 ?_)
    rintro _ σ81 ⟨rfl, k⟩
    refine ⟨rfl, ?_⟩
    exact gx_vret h rfl dX3_node_84 (⟨rfl, k⟩)
  · replace k := k.2 c
    refine gx_iload_n h 2 rfl dX3_node_48 ?_
    refine gx_if_le (tgt := 58) h (by decide) dX3_node_49 (fun c => ?_) (fun c => ?_)
    · replace k := k.1 c
      exact k
    · replace k := k.2 c
      refine gx_aload_nq (r := some a0) h 0 rfl dX3_node_52 ?_
      refine gx_bipush (v := 44) h dX3_node_53 (by decide) ?_
      refine gcc_X3_19 (r := some a0) (a0 := 44) h rfl ⟨Nat.le_refl _, Nat.le_refl _⟩ rfl k.1 (Nat.le_of_ble_eq_true rfl) dX3_node_55 (gx_C.mono k.2 ?_)
      rintro _ σ55 ⟨rfl, k⟩
      refine ⟨rfl, ?_⟩
      exact k
theorem bc_X3_node_58 {θ : gc_T} {K : gx_K} {P : gc_S → Prop} {σ : gc_S} {x2 : Int32} {x1 : Option Nat} {a0 n bc bs : Nat} (h : gc_K θ K (nX3_node (n + 1))) (k : ∃ a60_1 : Nat, x1 = some a60_1 ∧ gc_isN σ a60_1 ∧ ∃ a64_2 : Nat, gc_R σ 804 a60_1 = some a64_2 ∧ gc_is σ a64_2 12 ∧ gx_C (gc_O θ) (nJ5_get n) (.ref a64_2 :: [.int x2]) σ (gc_Pr (fun r64 σ64 => (∀ a, r64 = some a → gc_isN σ64 a) ∧ gc_is σ64 a0 3 ∧ gx_C (gc_O θ) (nX3_node n) (.ref a0 :: [va_rf r64]) σ64 (gc_Pv (fun σ70 => gc_G θ K (nX3_node (n + 1)) (gc_Pv P) 37 [(0, va_rf (some a0)), (1, va_rf x1), (2, .int (x2 + 1))] [] σ70 bc bs))))) : gc_G θ K (nX3_node (n + 1)) (gc_Pv P) 58 [(0, va_rf (some a0)), (1, va_rf x1), (2, .int x2)] [] σ bc bs := by
  refine gx_aload_nq (r := some a0) h 0 rfl dX3_node_58 ?_
  refine gx_aload_nq (r := x1) h 1 rfl dX3_node_59 ?_
  obtain ⟨a60_1, e60_1, k⟩ := k
  refine gcg_X3_38 h rfl e60_1 k.1 dX3_node_60 ?_
  replace k := k.2
  refine gx_iload_n h 2 rfl dX3_node_63 ?_
  obtain ⟨a64_2, e64_2, k⟩ := k
  refine gcc_X3_47 (r := gc_R σ 804 a60_1) (a0 := x2) h rfl ⟨Nat.le_refl _, Nat.le_refl _⟩ e64_2 k.1 (Nat.le_of_ble_eq_true rfl) dX3_node_64 (gx_C.mono k.2 ?_)
  rintro _ σ64 ⟨r64, rfl, k⟩
  refine ⟨r64, rfl, ?_⟩
  refine gc_castN (r := r64) h rfl q826 q1639 q1638 q1640 q1641 k.1 dX3_node_67 ?_
  replace k := k.2
  refine gcc_X3_51 (r := some a0) (a0 := r64) h rfl ⟨Nat.le_refl _, Nat.le_refl _⟩ rfl k.1 (Nat.le_of_ble_eq_true rfl) dX3_node_70 (gx_C.mono k.2 ?_)
  rintro _ σ70 ⟨rfl, k⟩
  refine ⟨rfl, ?_⟩
  refine gx_iinc (v := x2 + 1) (L' := [(2, .int (x2 + 1)), (0, va_rf (some a0)), (1, va_rf x1)]) h 2 rfl rfl (Nat.le_of_ble_eq_true rfl) (by generalize x1 = z; cases z <;> rfl) dX3_node_73 ?_
  refine gx_goto (tgt := 37) h (by decide) dX3_node_76 ?_
  exact gx_sub [1, 2, 0] rfl k
/-! X3.say -/
theorem ec_X3_say {θ : gc_T} {P : gc_S → Prop} {σ : gc_S} {n : Nat} {a0 : Nat} {x1 : Option Nat} (body : ∀ K, gc_K θ K (nX3_say (n + 1)) → gc_G θ K (nX3_say (n + 1)) (gc_Pv P) 0 [(0, va_rf (some a0)), (1, va_rf x1)] [] σ 0 0) : gx_C (gc_O θ) (nX3_say (n + 1)) [.ref a0, va_rf x1] σ (gc_Pv P) := by
  refine gx_C.intro (gc_z_warm θ) rfl (by cases x1 <;> exact Nat.le_of_ble_eq_true rfl) (fun K h => ?_)
  have k := body K h
  cases x1 <;> exact k
theorem bc_X3_say_0 {θ : gc_T} {K : gx_K} {P : gc_S → Prop} {σ : gc_S} {x1 : Option Nat} {a0 n bc bs : Nat} (h : gc_K θ K (nX3_say (n + 1))) (k : gc_G θ K (nX3_say (n + 1)) (gc_Pv P) 2 [(0, va_rf (some a0)), (1, va_rf x1), (2, .int 0)] [] σ bc bs) : gc_G θ K (nX3_say (n + 1)) (gc_Pv P) 0 [(0, va_rf (some a0)), (1, va_rf x1)] [] σ bc bs := by
  refine gx_iconst (v := 0) h dX3_say_0 (by decide) ?_
  refine gx_istore_n (L' := [(2, .int 0), (0, va_rf (some a0)), (1, va_rf x1)]) h (Nat.le_of_ble_eq_true rfl) (by generalize x1 = z; cases z <;> rfl) dX3_say_1 ?_
  exact gx_sub [1, 2, 0] rfl k
theorem bc_X3_say_2 {θ : gc_T} {K : gx_K} {P : gc_S → Prop} {σ : gc_S} {x2 : Int32} {x1 : Option Nat} {a0 n bc bs : Nat} (h : gc_K θ K (nX3_say (n + 1))) (k : ∃ a4_1 : Nat, x1 = some a4_1 ∧ gc_isB θ σ a4_1 ∧ (((Int32.ofNat (gc_n σ a4_1)) ≤ x2 → P σ) ∧ (¬ (Int32.ofNat (gc_n σ a4_1)) ≤ x2 → gc_is σ a4_1 15 ∧ vp_in x2 (gc_n σ a4_1) ∧ gc_is σ a0 3 ∧ gx_C (gc_O θ) (nX3_say_2 n) (.ref a0 :: [.int (gc_E σ a4_1 x2.toNatClampNeg)]) σ (gc_Pv (fun σ12 => gc_G θ K (nX3_say (n + 1)) (gc_Pv P) 2 [(0, va_rf (some a0)), (1, va_rf x1), (2, .int (x2 + 1))] [] σ12 bc bs))))) : gc_G θ K (nX3_say (n + 1)) (gc_Pv P) 2 [(0, va_rf (some a0)), (1, va_rf x1), (2, .int x2)] [] σ bc bs := by
  refine gx_iload_n h 2 rfl dX3_say_2 ?_
  refine gx_aload_nq (r := x1) h 1 rfl dX3_say_3 ?_
  obtain ⟨a4_1, e4_1, k⟩ := k
  refine gc_alen15E (r := x1) h e4_1 k.1 dX3_say_4 ?_
  replace k := k.2
  refine gx_icmp_ge (tgt := 21) h (by decide) dX3_say_5 (fun c => ?_) (fun c => ?_)
  · replace k := k.1 c
    exact gx_vret h rfl dX3_say_21 (⟨rfl, k⟩)
  · replace k := k.2 c
    refine gx_aload_nq (r := some a0) h 0 rfl dX3_say_8 ?_
    refine gx_aload_nq (r := x1) h 1 rfl dX3_say_9 ?_
    refine gx_iload_n h 2 rfl dX3_say_10 ?_
    refine gc_baldE (r := x1) h e4_1 k.1 k.2.1 dX3_say_11 ?_
    replace k := k.2.2
    refine gcc_X3_19 (r := some a0) (a0 := gc_E σ a4_1 x2.toNatClampNeg) h rfl ⟨Nat.le_refl _, Nat.le_refl _⟩ rfl k.1 (Nat.le_of_ble_eq_true rfl) dX3_say_12 (gx_C.mono k.2 ?_)
    rintro _ σ12 ⟨rfl, k⟩
    refine ⟨rfl, ?_⟩
    refine gx_iinc (v := x2 + 1) (L' := [(2, .int (x2 + 1)), (0, va_rf (some a0)), (1, va_rf x1)]) h 2 rfl rfl (Nat.le_of_ble_eq_true rfl) (by generalize x1 = z; cases z <;> rfl) dX3_say_15 ?_
    refine gx_goto (tgt := 2) h (by decide) dX3_say_18 ?_
    exact gx_sub [1, 2, 0] rfl k
/-! X3.say_2 -/
theorem ec_X3_say_2 {θ : gc_T} {P : gc_S → Prop} {σ : gc_S} {n : Nat} {a0 : Nat} {x1 : Int32} (body : ∀ K, gc_K θ K (nX3_say_2 n) → gc_G θ K (nX3_say_2 n) (gc_Pv P) 0 [(0, va_rf (some a0)), (1, .int x1)] [] σ 0 0) : gx_C (gc_O θ) (nX3_say_2 n) [.ref a0, .int x1] σ (gc_Pv P) :=
  gx_C.intro (gc_z_warm θ) rfl (Nat.le_of_ble_eq_true rfl) body
theorem bc_X3_say_2_0 {θ : gc_T} {K : gx_K} {P : gc_S → Prop} {σ : gc_S} {x1 : Int32} {a0 n bc bs : Nat} (h : gc_K θ K (nX3_say_2 n)) (k : gc_is σ a0 3 ∧ gc_is σ a0 3 ∧ ∃ a10_1 : Nat, gc_R σ 300 a0 = some a10_1 ∧ gc_is σ a10_1 15 ∧ vp_in (gc_I σ 301 a0) (gc_n σ a10_1) ∧ ∀ σ10, σ10 = gc_sE σ a10_1 (gc_I σ 301 a0).toNatClampNeg (vp_nar .byte x1.toInt8.toInt32) → gc_is σ10 a0 3 ∧ gc_is σ10 a0 3 ∧ ∀ σ18, σ18 = gc_sI σ10 301 a0 ((gc_I σ10 301 a0) + 1) → P σ18) : gc_G θ K (nX3_say_2 n) (gc_Pv P) 0 [(0, va_rf (some a0)), (1, .int x1)] [] σ bc bs := by
  refine gx_aload_nq (r := some a0) h 0 rfl dX3_say_2_0 ?_
  refine gcg_X3_9 h rfl rfl k.1 dX3_say_2_1 ?_
  replace k := k.2
  refine gx_aload_nq (r := some a0) h 0 rfl dX3_say_2_4 ?_
  refine gcg_X3_15 h rfl rfl k.1 dX3_say_2_5 ?_
  replace k := k.2
  refine gx_iload_n h 1 rfl dX3_say_2_8 ?_
  refine gx_i2b h dX3_say_2_9 ?_
  obtain ⟨a10_1, e10_1, k⟩ := k
  refine gc_bastE (r := gc_R σ 300 a0) h e10_1 k.1 k.2.1 dX3_say_2_10 ?_
  generalize hz : gc_sE σ a10_1 (gc_I σ 301 a0).toNatClampNeg (vp_nar .byte x1.toInt8.toInt32) = σ10
  replace k := k.2.2 σ10 hz.symm
  refine gx_aload_nq (r := some a0) h 0 rfl dX3_say_2_11 ?_
  refine gx_dup h rfl dX3_say_2_12 ?_
  refine gcg_X3_15 h rfl rfl k.1 dX3_say_2_13 ?_
  replace k := k.2
  refine gx_iconst (v := 1) h dX3_say_2_16 (by decide) ?_
  refine gx_iadd h dX3_say_2_17 ?_
  refine gcp_X3_15 (v := (gc_I σ10 301 a0) + 1) h rfl rfl k.1 dX3_say_2_18 ?_
  generalize hz : gc_sI σ10 301 a0 ((gc_I σ10 301 a0) + 1) = σ18
  replace k := k.2 σ18 hz.symm
  exact gx_vret h rfl dX3_say_2_21 (⟨rfl, k⟩)
/-! X4.init -/
theorem ec_X4_init {θ : gc_T} {P : gc_S → Prop} {σ : gc_S} {n c s : Nat} {a0 : Nat} (body : ∀ K, gc_K θ K (nX4_init (n + 1) c s) → gc_G θ K (nX4_init (n + 1) c s) (gc_Pv P) 0 [(0, va_rf (some a0))] [] σ c s) : gx_C (gc_O θ) (nX4_init (n + 1) c s) [.ref a0] σ (gc_Pv P) :=
  gx_C.intro (gc_z_warm θ) rfl (Nat.le_of_ble_eq_true rfl) body
theorem bc_X4_init_0 {θ : gc_T} {K : gx_K} {P : gc_S → Prop} {σ : gc_S} {a0 n c s bc bs : Nat} (h : gc_K θ K (nX4_init (n + 1) c s)) (k : ¬ (4 : Int32) < 0 ∧ (4 : Int32).toNatClampNeg ≤ 100000 ∧ 1 ≤ bc ∧ (4 : Int32).toNatClampNeg ≤ bs ∧ ∀ q6, q6 ∉ gc_d σ → gc_A θ q6 → ∀ σ6, σ6 = gc_new σ q6 14 (4 : Int32).toNatClampNeg → gc_is σ6 q6 14 ∧ vp_in 0 (gc_n σ6 q6) ∧ ∀ σ11, σ11 = gc_sE σ6 q6 (0 : Int32).toNatClampNeg 2 → gc_is σ11 q6 14 ∧ vp_in 1 (gc_n σ11 q6) ∧ ∀ σ15, σ15 = gc_sE σ11 q6 (1 : Int32).toNatClampNeg 1 → gc_is σ15 q6 14 ∧ vp_in 2 (gc_n σ15 q6) ∧ ∀ σ19, σ19 = gc_sE σ15 q6 (2 : Int32).toNatClampNeg 3 → gc_is σ19 q6 14 ∧ vp_in 3 (gc_n σ19 q6) ∧ ∀ σ23, σ23 = gc_sE σ19 q6 (3 : Int32).toNatClampNeg 3 → gc_is σ23 a0 4 ∧ ∀ σ24, σ24 = gc_sR σ23 400 a0 (some q6) → ¬ (30 : Int32) < 0 ∧ ¬ (30 : Int32) < 0 ∧ (30 : Int32).toNatClampNeg ≤ 1000 ∧ (30 : Int32).toNatClampNeg ≤ 1000 ∧ 1 + (30 : Int32).toNatClampNeg ≤ (bc - 1) ∧ (30 : Int32).toNatClampNeg + (30 : Int32).toNatClampNeg * (30 : Int32).toNatClampNeg ≤ (bs - (4 : Int32).toNatClampNeg) ∧ ∀ q32, (∀ i, i ≤ (30 : Int32).toNatClampNeg → q32 + i ∉ gc_d σ24 ∧ gc_A θ (q32 + i)) → ∀ σ32, σ32 = gc_mul σ24 q32 (30 : Int32).toNatClampNeg (30 : Int32).toNatClampNeg → gc_is σ32 a0 4 ∧ ∀ σ36, σ36 = gc_sR σ32 403 a0 (some q32) → ¬ (31 : Int32) < 0 ∧ ¬ (31 : Int32) < 0 ∧ (31 : Int32).toNatClampNeg ≤ 1000 ∧ (31 : Int32).toNatClampNeg ≤ 1000 ∧ 1 + (31 : Int32).toNatClampNeg ≤ ((bc - 1) - (1 + (30 : Int32).toNatClampNeg)) ∧ (31 : Int32).toNatClampNeg + (31 : Int32).toNatClampNeg * (31 : Int32).toNatClampNeg ≤ ((bs - (4 : Int32).toNatClampNeg) - ((30 : Int32).toNatClampNeg + (30 : Int32).toNatClampNeg * (30 : Int32).toNatClampNeg)) ∧ ∀ q44, (∀ i, i ≤ (31 : Int32).toNatClampNeg → q44 + i ∉ gc_d σ36 ∧ gc_A θ (q44 + i)) → ∀ σ44, σ44 = gc_mul σ36 q44 (31 : Int32).toNatClampNeg (31 : Int32).toNatClampNeg → gc_is σ44 a0 4 ∧ ∀ σ48, σ48 = gc_sR σ44 404 a0 (some q44) → ¬ (30 : Int32) < 0 ∧ (30 : Int32).toNatClampNeg ≤ 100000 ∧ 1 ≤ (((bc - 1) - (1 + (30 : Int32).toNatClampNeg)) - (1 + (31 : Int32).toNatClampNeg)) ∧ (30 : Int32).toNatClampNeg ≤ (((bs - (4 : Int32).toNatClampNeg) - ((30 : Int32).toNatClampNeg + (30 : Int32).toNatClampNeg * (30 : Int32).toNatClampNeg)) - ((31 : Int32).toNatClampNeg + (31 : Int32).toNatClampNeg * (31 : Int32).toNatClampNeg)) ∧ ∀ q54, q54 ∉ gc_d σ48 → gc_A θ q54 → ∀ σ54, σ54 = gc_new σ48 q54 18 (30 : Int32).toNatClampNeg → gc_is σ54 a0 4 ∧ ∀ σ57, σ57 = gc_sR σ54 405 a0 (some q54) → ¬ (30 : Int32) < 0 ∧ (30 : Int32).toNatClampNeg ≤ 100000 ∧ 1 ≤ ((((bc - 1) - (1 + (30 : Int32).toNatClampNeg)) - (1 + (31 : Int32).toNatClampNeg)) - 1) ∧ (30 : Int32).toNatClampNeg ≤ ((((bs - (4 : Int32).toNatClampNeg) - ((30 : Int32).toNatClampNeg + (30 : Int32).toNatClampNeg * (30 : Int32).toNatClampNeg)) - ((31 : Int32).toNatClampNeg + (31 : Int32).toNatClampNeg * (31 : Int32).toNatClampNeg)) - (30 : Int32).toNatClampNeg) ∧ ∀ q63, q63 ∉ gc_d σ57 → gc_A θ q63 → ∀ σ63, σ63 = gc_new σ57 q63 16 (30 : Int32).toNatClampNeg → gc_is σ63 a0 4 ∧ ∀ σ65, σ65 = gc_sR σ63 406 a0 (some q63) → P σ65) : gc_G θ K (nX4_init (n + 1) c s) (gc_Pv P) 0 [(0, va_rf (some a0))] [] σ bc bs := by
  refine gx_aload_nq (r := some a0) h 0 rfl dX4_init_0 ?_
  refine gcc_X4_3 (n := n) (r := some a0) h rfl ⟨Nat.le_refl _, Nat.le_refl _⟩ rfl (Nat.le_of_ble_eq_true rfl) dX4_init_1 ?_
  refine gx_aload_nq (r := some a0) h 0 rfl dX4_init_4 ?_
  refine gx_iconst (v := 4) h dX4_init_5 (by decide) ?_
  refine gc_newa (atype := .int) (k := 14) (t := 0) (ty := .int) (by decide) (by decide) rfl rfl rfl (by decide) q212 h k.1 k.2.1 dX4_init_6 k.2.2.1 k.2.2.2.1 (fun q6 hq hA => ?_)
  generalize hz : gc_new σ q6 14 (4 : Int32).toNatClampNeg = σ6
  replace k := k.2.2.2.2 q6 hq hA σ6 hz.symm
  refine gx_dup h rfl dX4_init_8 ?_
  refine gx_iconst (v := 0) h dX4_init_9 (by decide) ?_
  refine gx_iconst (v := 2) h dX4_init_10 (by decide) ?_
  refine gc_iastE (r := some q6) h rfl k.1 k.2.1 dX4_init_11 ?_
  generalize hz : gc_sE σ6 q6 (0 : Int32).toNatClampNeg 2 = σ11
  replace k := k.2.2 σ11 hz.symm
  refine gx_dup h rfl dX4_init_12 ?_
  refine gx_iconst (v := 1) h dX4_init_13 (by decide) ?_
  refine gx_iconst (v := 1) h dX4_init_14 (by decide) ?_
  refine gc_iastE (r := some q6) h rfl k.1 k.2.1 dX4_init_15 ?_
  generalize hz : gc_sE σ11 q6 (1 : Int32).toNatClampNeg 1 = σ15
  replace k := k.2.2 σ15 hz.symm
  refine gx_dup h rfl dX4_init_16 ?_
  refine gx_iconst (v := 2) h dX4_init_17 (by decide) ?_
  refine gx_iconst (v := 3) h dX4_init_18 (by decide) ?_
  refine gc_iastE (r := some q6) h rfl k.1 k.2.1 dX4_init_19 ?_
  generalize hz : gc_sE σ15 q6 (2 : Int32).toNatClampNeg 3 = σ19
  replace k := k.2.2 σ19 hz.symm
  refine gx_dup h rfl dX4_init_20 ?_
  refine gx_iconst (v := 3) h dX4_init_21 (by decide) ?_
  refine gx_iconst (v := 3) h dX4_init_22 (by decide) ?_
  refine gc_iastE (r := some q6) h rfl k.1 k.2.1 dX4_init_23 ?_
  generalize hz : gc_sE σ19 q6 (3 : Int32).toNatClampNeg 3 = σ23
  replace k := k.2.2 σ23 hz.symm
  refine gcp_X4_9 (v := some q6) h rfl rfl rfl k.1 dX4_init_24 ?_
  generalize hz : gc_sR σ23 400 a0 (some q6) = σ24
  replace k := k.2 σ24 hz.symm
  refine gx_aload_nq (r := some a0) h 0 rfl dX4_init_27 ?_
  refine gx_bipush (v := 30) h dX4_init_28 (by decide) ?_
  refine gx_bipush (v := 30) h dX4_init_30 (by decide) ?_
  refine gc_multi h rfl q235 q236 k.1 k.2.1 k.2.2.1 k.2.2.2.1 dX4_init_32 k.2.2.2.2.1 k.2.2.2.2.2.1 (fun q32 hq => ?_)
  generalize hz : gc_mul σ24 q32 (30 : Int32).toNatClampNeg (30 : Int32).toNatClampNeg = σ32
  replace k := k.2.2.2.2.2.2 q32 hq σ32 hz.symm
  refine gcp_X4_17 (v := some q32) h rfl rfl rfl k.1 dX4_init_36 ?_
  generalize hz : gc_sR σ32 403 a0 (some q32) = σ36
  replace k := k.2 σ36 hz.symm
  refine gx_aload_nq (r := some a0) h 0 rfl dX4_init_39 ?_
  refine gx_bipush (v := 31) h dX4_init_40 (by decide) ?_
  refine gx_bipush (v := 31) h dX4_init_42 (by decide) ?_
  refine gc_multi h rfl q235 q236 k.1 k.2.1 k.2.2.1 k.2.2.2.1 dX4_init_44 k.2.2.2.2.1 k.2.2.2.2.2.1 (fun q44 hq => ?_)
  generalize hz : gc_mul σ36 q44 (31 : Int32).toNatClampNeg (31 : Int32).toNatClampNeg = σ44
  replace k := k.2.2.2.2.2.2 q44 hq σ44 hz.symm
  refine gcp_X4_20 (v := some q44) h rfl rfl rfl k.1 dX4_init_48 ?_
  generalize hz : gc_sR σ44 404 a0 (some q44) = σ48
  replace k := k.2 σ48 hz.symm
  refine gx_aload_nq (r := some a0) h 0 rfl dX4_init_51 ?_
  refine gx_bipush (v := 30) h dX4_init_52 (by decide) ?_
  refine gc_newq (k := 18) (t := 4) (by decide) rfl h rfl q237 q238 k.1 k.2.1 dX4_init_54 k.2.2.1 k.2.2.2.1 (fun q54 hq hA => ?_)
  generalize hz : gc_new σ48 q54 18 (30 : Int32).toNatClampNeg = σ54
  replace k := k.2.2.2.2 q54 hq hA σ54 hz.symm
  refine gcp_X4_25 (v := some q54) h rfl rfl rfl k.1 dX4_init_57 ?_
  generalize hz : gc_sR σ54 405 a0 (some q54) = σ57
  replace k := k.2 σ57 hz.symm
  refine gx_aload_nq (r := some a0) h 0 rfl dX4_init_60 ?_
  refine gx_bipush (v := 30) h dX4_init_61 (by decide) ?_
  refine gc_newa (atype := .boolean) (k := 16) (t := 2) (ty := .boolean) (by decide) (by decide) rfl rfl rfl (by decide) q264 h k.1 k.2.1 dX4_init_63 k.2.2.1 k.2.2.2.1 (fun q63 hq hA => ?_)
  generalize hz : gc_new σ57 q63 16 (30 : Int32).toNatClampNeg = σ63
  replace k := k.2.2.2.2 q63 hq hA σ63 hz.symm
  refine gcp_X4_29 (v := some q63) h rfl rfl rfl k.1 dX4_init_65 ?_
  generalize hz : gc_sR σ63 406 a0 (some q63) = σ65
  replace k := k.2 σ65 hz.symm
  exact gx_vret h rfl dX4_init_68 (⟨rfl, k⟩)
/-! X4.distance -/
theorem ec_X4_distance {θ : gc_T} {P : Int32 → gc_S → Prop} {σ : gc_S} {n : Nat} {a0 : Nat} {x1 : Option Nat} {x2 : Option Nat} (body : ∀ K, gc_K θ K (nX4_distance (n + 1)) → gc_G θ K (nX4_distance (n + 1)) (gc_Pi P) 0 [(0, va_rf (some a0)), (1, va_rf x1), (2, va_rf x2)] [] σ 0 0) : gx_C (gc_O θ) (nX4_distance (n + 1)) [.ref a0, va_rf x1, va_rf x2] σ (gc_Pi P) := by
  refine gx_C.intro (gc_z_warm θ) rfl (by cases x1 <;>  cases x2 <;> exact Nat.le_of_ble_eq_true rfl) (fun K h => ?_)
  have k := body K h
  cases x1 <;>  cases x2 <;> exact k
theorem bc_X4_distance_0 {θ : gc_T} {K : gx_K} {P : Int32 → gc_S → Prop} {σ : gc_S} {x1 x2 : Option Nat} {a0 n bc bs : Nat} (h : gc_K θ K (nX4_distance (n + 1))) (k : gc_is σ a0 4 ∧ ∀ σ2, σ2 = gc_sR σ 401 a0 x1 → gc_is σ2 a0 4 ∧ ∀ σ7, σ7 = gc_sR σ2 402 a0 x2 → gc_G θ K (nX4_distance (n + 1)) (gc_Pi P) 12 [(0, va_rf (some a0)), (1, va_rf x1), (2, va_rf x2), (3, .int 0)] [] σ7 bc bs) : gc_G θ K (nX4_distance (n + 1)) (gc_Pi P) 0 [(0, va_rf (some a0)), (1, va_rf x1), (2, va_rf x2)] [] σ bc bs := by
  refine gx_aload_nq (r := some a0) h 0 rfl dX4_distance_0 ?_
  refine gx_aload_nq (r := x1) h 1 rfl dX4_distance_1 ?_
  refine gcp_X4_53 (v := x1) h rfl rfl k.1 dX4_distance_2 ?_
  generalize hz : gc_sR σ 401 a0 x1 = σ2
  replace k := k.2 σ2 hz.symm
  refine gx_aload_nq (r := some a0) h 0 rfl dX4_distance_5 ?_
  refine gx_aload_nq (r := x2) h 2 rfl dX4_distance_6 ?_
  refine gcp_X4_62 (v := x2) h rfl rfl k.1 dX4_distance_7 ?_
  generalize hz : gc_sR σ2 402 a0 x2 = σ7
  replace k := k.2 σ7 hz.symm
  refine gx_iconst (v := 0) h dX4_distance_10 (by decide) ?_
  refine gx_istore_n (L' := [(3, .int 0), (0, va_rf (some a0)), (1, va_rf x1), (2, va_rf x2)]) h (Nat.le_of_ble_eq_true rfl) (by generalize x2 = z; cases z <;> rfl) dX4_distance_11 ?_
  exact gx_sub [1, 2, 3, 0] rfl k
theorem bc_X4_distance_12 {θ : gc_T} {K : gx_K} {P : Int32 → gc_S → Prop} {σ : gc_S} {x3 : Int32} {x1 x2 : Option Nat} {a0 n bc bs : Nat} (h : gc_K θ K (nX4_distance (n + 1))) (k : ∃ a14_1 : Nat, x1 = some a14_1 ∧ gc_is σ a14_1 7 ∧ (((gc_I σ 703 a14_1) ≤ x3 → gc_is σ a14_1 7 ∧ ∃ a110_2 : Nat, x2 = some a110_2 ∧ gc_is σ a110_2 7 ∧ gc_is σ a0 4 ∧ gx_C (gc_O θ) (nX4_forests n) (.ref a0 :: [.int 0, .int (gc_I σ 703 a14_1), .int 0, .int (gc_I σ 703 a110_2)]) σ (gc_Pv (fun σ113 => gc_is σ113 a0 4 ∧ gc_is σ113 a14_1 7 ∧ ∃ a124_3 : Nat, gc_R σ113 404 a0 = some a124_3 ∧ gc_is σ113 a124_3 17 ∧ vp_in (gc_I σ113 703 a14_1) (gc_n σ113 a124_3) ∧ gc_is σ113 a110_2 7 ∧ ∃ a129_4 : Nat, gc_Q σ113 a124_3 (gc_I σ113 703 a14_1).toNatClampNeg = some a129_4 ∧ gc_is σ113 a129_4 14 ∧ vp_in (gc_I σ113 703 a110_2) (gc_n σ113 a129_4) ∧ P (gc_E σ113 a129_4 (gc_I σ113 703 a110_2).toNatClampNeg) σ113))) ∧ (¬ (gc_I σ 703 a14_1) ≤ x3 → gc_G θ K (nX4_distance (n + 1)) (gc_Pi P) 23 [(0, va_rf (some a0)), (1, va_rf x1), (2, va_rf x2), (3, .int x3), (4, .int 0)] [] σ bc bs))) : gc_G θ K (nX4_distance (n + 1)) (gc_Pi P) 12 [(0, va_rf (some a0)), (1, va_rf x1), (2, va_rf x2), (3, .int x3)] [] σ bc bs := by
  refine gx_iload_n h 3 rfl dX4_distance_12 ?_
  refine gx_aload_nq (r := x1) h 1 rfl dX4_distance_13 ?_
  obtain ⟨a14_1, e14_1, k⟩ := k
  refine gcg_X4_80 h rfl e14_1 k.1 dX4_distance_14 ?_
  replace k := k.2
  refine gx_icmp_ge (tgt := 102) h (by decide) dX4_distance_17 (fun c => ?_) (fun c => ?_)
  · replace k := k.1 c
    refine gx_aload_nq (r := some a0) h 0 rfl dX4_distance_102 ?_
    refine gx_iconst (v := 0) h dX4_distance_103 (by decide) ?_
    refine gx_aload_nq (r := x1) h 1 rfl dX4_distance_104 ?_
    refine gcg_X4_80 h rfl e14_1 k.1 dX4_distance_105 ?_
    replace k := k.2
    refine gx_iconst (v := 0) h dX4_distance_108 (by decide) ?_
    refine gx_aload_nq (r := x2) h 2 rfl dX4_distance_109 ?_
    obtain ⟨a110_2, e110_2, k⟩ := k
    refine gcg_X4_80 h rfl e110_2 k.1 dX4_distance_110 ?_
    replace k := k.2
    refine gcc_X4_83 (r := some a0) (a0 := 0) (a1 := gc_I σ 703 a14_1) (a2 := 0) (a3 := gc_I σ 703 a110_2) h rfl ⟨Nat.le_refl _, Nat.le_refl _⟩ rfl k.1 (Nat.le_of_ble_eq_true rfl) dX4_distance_113 (gx_C.mono k.2 ?_)
    rintro _ σ113 ⟨rfl, k⟩
    refine ⟨rfl, ?_⟩
    refine gx_aload_nq (r := some a0) h 0 rfl dX4_distance_116 ?_
    refine gcg_X4_20 h rfl rfl k.1 dX4_distance_117 ?_
    replace k := k.2
    refine gx_aload_nq (r := x1) h 1 rfl dX4_distance_120 ?_
    refine gcg_X4_80 h rfl e14_1 k.1 dX4_distance_121 ?_
    replace k := k.2
    obtain ⟨a124_3, e124_3, k⟩ := k
    refine gc_aald17E (r := gc_R σ113 404 a0) h e124_3 k.1 k.2.1 dX4_distance_124 ?_
    replace k := k.2.2
    refine gx_aload_nq (r := x2) h 2 rfl dX4_distance_125 ?_
    refine gcg_X4_80 h rfl e110_2 k.1 dX4_distance_126 ?_
    replace k := k.2
    obtain ⟨a129_4, e129_4, k⟩ := k
    refine gc_ialdE (r := gc_Q σ113 a124_3 (gc_I σ113 703 a14_1).toNatClampNeg) h e129_4 k.1 k.2.1 dX4_distance_129 ?_
    replace k := k.2.2
    exact gx_iret h rfl dX4_distance_130 (⟨_, rfl, k⟩)
  · replace k := k.2 c
    refine gx_iconst (v := 0) h dX4_distance_20 (by decide) ?_
    refine gx_istore (L' := [(4, .int 0), (0, va_rf (some a0)), (1, va_rf x1), (2, va_rf x2), (3, .int x3)]) h (Nat.le_of_ble_eq_true rfl) rfl dX4_distance_21 ?_
    exact gx_sub [1, 2, 3, 4, 0] rfl k
theorem bc_X4_distance_23 {θ : gc_T} {K : gx_K} {P : Int32 → gc_S → Prop} {σ : gc_S} {x3 x4 : Int32} {x1 x2 : Option Nat} {a0 n bc bs : Nat} (h : gc_K θ K (nX4_distance (n + 1))) (k : ∃ a26_1 : Nat, x2 = some a26_1 ∧ gc_is σ a26_1 7 ∧ (((gc_I σ 703 a26_1) ≤ x4 → gc_G θ K (nX4_distance (n + 1)) (gc_Pi P) 12 [(0, va_rf (some a0)), (1, va_rf x1), (2, va_rf x2), (3, .int (x3 + 1))] [] σ bc bs) ∧ (¬ (gc_I σ 703 a26_1) ≤ x4 → ∃ a33_2 : Nat, x1 = some a33_2 ∧ gc_is σ a33_2 7 ∧ ∃ a37_3 : Nat, gc_R σ 702 a33_2 = some a37_3 ∧ gc_is σ a37_3 18 ∧ vp_in x3 (gc_n σ a37_3) ∧ ∃ a38_4 : Nat, gc_Q σ a37_3 x3.toNatClampNeg = some a38_4 ∧ gc_isN σ a38_4 ∧ gc_is σ a26_1 7 ∧ ∃ a49_5 : Nat, gc_R σ 702 a26_1 = some a49_5 ∧ gc_is σ a49_5 18 ∧ vp_in x4 (gc_n σ a49_5) ∧ ∃ a50_6 : Nat, gc_Q σ a49_5 x4.toNatClampNeg = some a50_6 ∧ gc_isN σ a50_6 ∧ gc_is σ a0 4 ∧ gx_C (gc_O θ) (nX4_forests n) (.ref a0 :: [.int (gc_I σ 807 a38_4), .int x3, .int (gc_I σ 807 a50_6), .int x4]) σ (gc_Pv (fun σ63 => gc_is σ63 a0 4 ∧ ∃ a71_7 : Nat, gc_R σ63 403 a0 = some a71_7 ∧ gc_is σ63 a71_7 17 ∧ vp_in x3 (gc_n σ63 a71_7) ∧ gc_is σ63 a0 4 ∧ ∃ a82_8 : Nat, gc_R σ63 404 a0 = some a82_8 ∧ gc_is σ63 a82_8 17 ∧ vp_in (x3 - (gc_I σ 807 a38_4)) (gc_n σ63 a82_8) ∧ ∃ a88_9 : Nat, gc_Q σ63 a82_8 (x3 - (gc_I σ 807 a38_4)).toNatClampNeg = some a88_9 ∧ gc_is σ63 a88_9 14 ∧ vp_in (x4 - (gc_I σ 807 a50_6)) (gc_n σ63 a88_9) ∧ ∃ a89_10 : Nat, gc_Q σ63 a71_7 x3.toNatClampNeg = some a89_10 ∧ gc_is σ63 a89_10 14 ∧ vp_in x4 (gc_n σ63 a89_10) ∧ ∀ σ89, σ89 = gc_sE σ63 a89_10 x4.toNatClampNeg (gc_E σ63 a88_9 (x4 - (gc_I σ 807 a50_6)).toNatClampNeg) → gc_G θ K (nX4_distance (n + 1)) (gc_Pi P) 23 [(0, va_rf (some a0)), (1, va_rf x1), (2, va_rf x2), (3, .int x3), (4, .int (x4 + 1))] [] σ89 bc bs))))) : gc_G θ K (nX4_distance (n + 1)) (gc_Pi P) 23 [(0, va_rf (some a0)), (1, va_rf x1), (2, va_rf x2), (3, .int x3), (4, .int x4)] [] σ bc bs := by
  refine gx_iload h 4 rfl dX4_distance_23 ?_
  refine gx_aload_nq (r := x2) h 2 rfl dX4_distance_25 ?_
  obtain ⟨a26_1, e26_1, k⟩ := k
  refine gcg_X4_80 h rfl e26_1 k.1 dX4_distance_26 ?_
  replace k := k.2
  refine gx_icmp_ge (tgt := 96) h (by decide) dX4_distance_29 (fun c => ?_) (fun c => ?_)
  · replace k := k.1 c
    refine gx_iinc (v := x3 + 1) (L' := [(3, .int (x3 + 1)), (0, va_rf (some a0)), (1, va_rf x1), (2, va_rf x2), (4, .int x4)]) h 3 rfl rfl (Nat.le_of_ble_eq_true rfl) (by generalize x2 = z; cases z <;> rfl) dX4_distance_96 ?_
    refine gx_goto (tgt := 12) h (by decide) dX4_distance_99 ?_
    exact gx_sub [1, 2, 3, 0] rfl k
  · replace k := k.2 c
    refine gx_aload_nq (r := x1) h 1 rfl dX4_distance_32 ?_
    obtain ⟨a33_2, e33_2, k⟩ := k
    refine gcg_X4_57 h rfl e33_2 k.1 dX4_distance_33 ?_
    replace k := k.2
    refine gx_iload_n h 3 rfl dX4_distance_36 ?_
    obtain ⟨a37_3, e37_3, k⟩ := k
    refine gc_aald18E (r := gc_R σ 702 a33_2) h e37_3 k.1 k.2.1 dX4_distance_37 ?_
    replace k := k.2.2
    obtain ⟨a38_4, e38_4, k⟩ := k
    refine gcg_X4_72 h rfl e38_4 k.1 dX4_distance_38 ?_
    replace k := k.2
    refine gx_istore (L' := [(5, .int (gc_I σ 807 a38_4)), (0, va_rf (some a0)), (1, va_rf x1), (2, va_rf x2), (3, .int x3), (4, .int x4)]) h (Nat.le_of_ble_eq_true rfl) rfl dX4_distance_41 ?_
    refine gx_aload_nq (r := x2) h 3 rfl dX4_distance_43 ?_
    refine gcg_X4_57 h rfl e26_1 k.1 dX4_distance_44 ?_
    replace k := k.2
    refine gx_iload h 5 rfl dX4_distance_47 ?_
    obtain ⟨a49_5, e49_5, k⟩ := k
    refine gc_aald18E (r := gc_R σ 702 a26_1) h e49_5 k.1 k.2.1 dX4_distance_49 ?_
    replace k := k.2.2
    obtain ⟨a50_6, e50_6, k⟩ := k
    refine gcg_X4_72 h rfl e50_6 k.1 dX4_distance_50 ?_
    replace k := k.2
    refine gx_istore (L' := [(6, .int (gc_I σ 807 a50_6)), (5, .int (gc_I σ 807 a38_4)), (0, va_rf (some a0)), (1, va_rf x1), (2, va_rf x2), (3, .int x3), (4, .int x4)]) h (Nat.le_of_ble_eq_true rfl) rfl dX4_distance_53 ?_
    refine gx_aload_nq (r := some a0) h 2 rfl dX4_distance_55 ?_
    refine gx_iload h 1 rfl dX4_distance_56 ?_
    refine gx_iload_n h 5 rfl dX4_distance_58 ?_
    refine gx_iload h 0 rfl dX4_distance_59 ?_
    refine gx_iload h 6 rfl dX4_distance_61 ?_
    refine gcc_X4_83 (r := some a0) (a0 := gc_I σ 807 a38_4) (a1 := x3) (a2 := gc_I σ 807 a50_6) (a3 := x4) h rfl ⟨Nat.le_refl _, Nat.le_refl _⟩ rfl k.1 (Nat.le_of_ble_eq_true rfl) dX4_distance_63 (gx_C.mono k.2 ?_)
    rintro _ σ63 ⟨rfl, k⟩
    refine ⟨rfl, ?_⟩
    refine gx_aload_nq (r := some a0) h 2 rfl dX4_distance_66 ?_
    refine gcg_X4_17 h rfl rfl k.1 dX4_distance_67 ?_
    replace k := k.2
    refine gx_iload_n h 5 rfl dX4_distance_70 ?_
    obtain ⟨a71_7, e71_7, k⟩ := k
    refine gc_aald17E (r := gc_R σ63 403 a0) h e71_7 k.1 k.2.1 dX4_distance_71 ?_
    replace k := k.2.2
    refine gx_iload h 6 rfl dX4_distance_72 ?_
    refine gx_aload_nq (r := some a0) h 2 rfl dX4_distance_74 ?_
    refine gcg_X4_20 h rfl rfl k.1 dX4_distance_75 ?_
    replace k := k.2
    refine gx_iload_n h 5 rfl dX4_distance_78 ?_
    refine gx_iload h 1 rfl dX4_distance_79 ?_
    refine gx_isub h dX4_distance_81 ?_
    obtain ⟨a82_8, e82_8, k⟩ := k
    refine gc_aald17E (r := gc_R σ63 404 a0) h e82_8 k.1 k.2.1 dX4_distance_82 ?_
    replace k := k.2.2
    refine gx_iload h 6 rfl dX4_distance_83 ?_
    refine gx_iload h 0 rfl dX4_distance_85 ?_
    refine gx_isub h dX4_distance_87 ?_
    obtain ⟨a88_9, e88_9, k⟩ := k
    refine gc_ialdE (r := gc_Q σ63 a82_8 (x3 - (gc_I σ 807 a38_4)).toNatClampNeg) h e88_9 k.1 k.2.1 dX4_distance_88 ?_
    replace k := k.2.2
    obtain ⟨a89_10, e89_10, k⟩ := k
    refine gc_iastE (r := gc_Q σ63 a71_7 x3.toNatClampNeg) h e89_10 k.1 k.2.1 dX4_distance_89 ?_
    generalize hz : gc_sE σ63 a89_10 x4.toNatClampNeg (gc_E σ63 a88_9 (x4 - (gc_I σ 807 a50_6)).toNatClampNeg) = σ89
    replace k := k.2.2 σ89 hz.symm
    refine gx_iinc (v := x4 + 1) (L' := [(4, .int (x4 + 1)), (6, .int (gc_I σ 807 a50_6)), (5, .int (gc_I σ 807 a38_4)), (0, va_rf (some a0)), (1, va_rf x1), (2, va_rf x2), (3, .int x3)]) h 6 rfl rfl (Nat.le_of_ble_eq_true rfl) rfl dX4_distance_90 ?_
    refine gx_goto (tgt := 23) h (by decide) dX4_distance_93 ?_
    exact gx_sub [3, 4, 5, 6, 0] rfl k
