set_option maxRecDepth 100000
/-! X0.init -/
theorem ec_X0_init {θ : gc_T} {P : gc_S → Prop} {σ : gc_S} {n c s : Nat} {a0 : Nat} (body : ∀ K, gc_K θ K (nX0_init (n + 1) c s) → gc_G θ K (nX0_init (n + 1) c s) (gc_Pv P) 0 [(0, va_rf (some a0))] [] σ c s) : gx_C (gc_O θ) (nX0_init (n + 1) c s) [.ref a0] σ (gc_Pv P) :=
  gx_C.intro (gc_z_warm θ) rfl (Nat.le_of_ble_eq_true rfl) body
theorem bc_X0_init_0 {θ : gc_T} {K : gx_K} {P : gc_S → Prop} {σ : gc_S} {a0 n c s bc bs : Nat} (h : gc_K θ K (nX0_init (n + 1) c s)) (k : 5 ≤ n ∧ 1 ≤ bc ∧ 7 ≤ bs ∧ ∀ q5, q5 ∉ gc_d σ → gc_A θ q5 → ∀ r5a r5b : Option Nat, ∀ σ5, σ5 = gc_sR (gc_sR (gc_sR (gc_new σ q5 1 0) 100 q5 (some q5)) 101 q5 r5a) 102 q5 r5b → gc_is σ5 a0 0 ∧ ∀ σ12, σ12 = gc_sR σ5 0 a0 (some q5) → ¬ (10 : Int32) < 0 ∧ (10 : Int32).toNatClampNeg ≤ 100000 ∧ 1 ≤ (bc - 1) ∧ (10 : Int32).toNatClampNeg ≤ (bs - 7) ∧ ∀ q18, q18 ∉ gc_d σ12 → gc_A θ q18 → ∀ σ18, σ18 = gc_new σ12 q18 14 (10 : Int32).toNatClampNeg → gc_is σ18 a0 0 ∧ ∀ σ20, σ20 = gc_sR σ18 1 a0 (some q18) → ¬ (8 : Int32) < 0 ∧ (8 : Int32).toNatClampNeg ≤ 100000 ∧ 1 ≤ ((bc - 1) - 1) ∧ (8 : Int32).toNatClampNeg ≤ ((bs - 7) - (10 : Int32).toNatClampNeg) ∧ ∀ q26, q26 ∉ gc_d σ20 → gc_A θ q26 → ∀ σ26, σ26 = gc_new σ20 q26 19 (8 : Int32).toNatClampNeg → gc_is σ26 a0 0 ∧ ∀ σ29, σ29 = gc_sR σ26 2 a0 (some q26) → ¬ (400 : Int32) < 0 ∧ (400 : Int32).toNatClampNeg ≤ 100000 ∧ 1 ≤ (((bc - 1) - 1) - 1) ∧ (400 : Int32).toNatClampNeg ≤ (((bs - 7) - (10 : Int32).toNatClampNeg) - (8 : Int32).toNatClampNeg) ∧ ∀ q36, q36 ∉ gc_d σ29 → gc_A θ q36 → ∀ σ36, σ36 = gc_new σ29 q36 15 (400 : Int32).toNatClampNeg → gc_is σ36 a0 0 ∧ ∀ σ38, σ38 = gc_sR σ36 4 a0 (some q36) → 1 ≤ ((((bc - 1) - 1) - 1) - 1) ∧ 5 ≤ ((((bs - 7) - (10 : Int32).toNatClampNeg) - (8 : Int32).toNatClampNeg) - (400 : Int32).toNatClampNeg) ∧ ∀ q42, q42 ∉ gc_d σ38 → gc_A θ q42 → ∀ σ42, σ42 = gc_new σ38 q42 2 0 → gc_is σ42 a0 0 ∧ gx_C (gc_O θ) (nX2_init n) (.ref q42 :: [va_rf (gc_R σ42 0 a0)]) σ42 (gc_Pv (fun σ50 => gc_is σ50 a0 0 ∧ ∀ σ53, σ53 = gc_sR σ50 6 a0 (some q42) → 1 ≤ (((((bc - 1) - 1) - 1) - 1) - 1) ∧ 2 ≤ (((((bs - 7) - (10 : Int32).toNatClampNeg) - (8 : Int32).toNatClampNeg) - (400 : Int32).toNatClampNeg) - 5) ∧ ∀ q57, q57 ∉ gc_d σ53 → gc_A θ q57 → ∀ σ57, σ57 = gc_new σ53 q57 3 0 → ∃ c61 s61 : Nat, (c61 ≤ ((((((bc - 1) - 1) - 1) - 1) - 1) - 1) ∧ s61 ≤ ((((((bs - 7) - (10 : Int32).toNatClampNeg) - (8 : Int32).toNatClampNeg) - (400 : Int32).toNatClampNeg) - 5) - 2)) ∧ gx_C (gc_O θ) (nX3_init n c61 s61) (.ref q57 :: []) σ57 (gc_Pv (fun σ61 => gc_is σ61 a0 0 ∧ ∀ σ64, σ64 = gc_sR σ61 7 a0 (some q57) → 1 ≤ (((((((bc - 1) - 1) - 1) - 1) - 1) - 1) - c61) ∧ 7 ≤ (((((((bs - 7) - (10 : Int32).toNatClampNeg) - (8 : Int32).toNatClampNeg) - (400 : Int32).toNatClampNeg) - 5) - 2) - s61) ∧ ∀ q68, q68 ∉ gc_d σ64 → gc_A θ q68 → ∀ σ68, σ68 = gc_new σ64 q68 4 0 → ∃ c72 s72 : Nat, (c72 ≤ ((((((((bc - 1) - 1) - 1) - 1) - 1) - 1) - c61) - 1) ∧ s72 ≤ ((((((((bs - 7) - (10 : Int32).toNatClampNeg) - (8 : Int32).toNatClampNeg) - (400 : Int32).toNatClampNeg) - 5) - 2) - s61) - 7)) ∧ gx_C (gc_O θ) (nX4_init n c72 s72) (.ref q68 :: []) σ68 (gc_Pv (fun σ72 => gc_is σ72 a0 0 ∧ ∀ σ75, σ75 = gc_sR σ72 8 a0 (some q68) → 1 ≤ (((((((((bc - 1) - 1) - 1) - 1) - 1) - 1) - c61) - 1) - c72) ∧ 2 ≤ (((((((((bs - 7) - (10 : Int32).toNatClampNeg) - (8 : Int32).toNatClampNeg) - (400 : Int32).toNatClampNeg) - 5) - 2) - s61) - 7) - s72) ∧ ∀ q79, q79 ∉ gc_d σ75 → gc_A θ q79 → ∀ σ79, σ79 = gc_new σ75 q79 5 0 → ∃ c83 s83 : Nat, (c83 ≤ ((((((((((bc - 1) - 1) - 1) - 1) - 1) - 1) - c61) - 1) - c72) - 1) ∧ s83 ≤ ((((((((((bs - 7) - (10 : Int32).toNatClampNeg) - (8 : Int32).toNatClampNeg) - (400 : Int32).toNatClampNeg) - 5) - 2) - s61) - 7) - s72) - 2)) ∧ gx_C (gc_O θ) (nX5_init n c83 s83) (.ref q79 :: []) σ79 (gc_Pv (fun σ83 => gc_is σ83 a0 0 ∧ ∀ σ86, σ86 = gc_sR σ83 9 a0 (some q79) → 1 ≤ (((((((((((bc - 1) - 1) - 1) - 1) - 1) - 1) - c61) - 1) - c72) - 1) - c83) ∧ 9 ≤ (((((((((((bs - 7) - (10 : Int32).toNatClampNeg) - (8 : Int32).toNatClampNeg) - (400 : Int32).toNatClampNeg) - 5) - 2) - s61) - 7) - s72) - 2) - s83) ∧ ∀ q90, q90 ∉ gc_d σ86 → gc_A θ q90 → ∀ σ90, σ90 = gc_new σ86 q90 6 0 → ∃ c94 s94 : Nat, (c94 ≤ ((((((((((((bc - 1) - 1) - 1) - 1) - 1) - 1) - c61) - 1) - c72) - 1) - c83) - 1) ∧ s94 ≤ ((((((((((((bs - 7) - (10 : Int32).toNatClampNeg) - (8 : Int32).toNatClampNeg) - (400 : Int32).toNatClampNeg) - 5) - 2) - s61) - 7) - s72) - 2) - s83) - 9)) ∧ gx_C (gc_O θ) (nX6_init n c94 s94) (.ref q90 :: []) σ90 (gc_Pv (fun σ94 => gc_is σ94 a0 0 ∧ ∀ σ97, σ97 = gc_sR σ94 10 a0 (some q90) → ¬ (30 : Int32) < 0 ∧ (30 : Int32).toNatClampNeg ≤ 100000 ∧ 1 ≤ (((((((((((((bc - 1) - 1) - 1) - 1) - 1) - 1) - c61) - 1) - c72) - 1) - c83) - 1) - c94) ∧ (30 : Int32).toNatClampNeg ≤ (((((((((((((bs - 7) - (10 : Int32).toNatClampNeg) - (8 : Int32).toNatClampNeg) - (400 : Int32).toNatClampNeg) - 5) - 2) - s61) - 7) - s72) - 2) - s83) - 9) - s94) ∧ ∀ q103, q103 ∉ gc_d σ97 → gc_A θ q103 → ∀ σ103, σ103 = gc_new σ97 q103 14 (30 : Int32).toNatClampNeg → gc_is σ103 a0 0 ∧ ∀ σ105, σ105 = gc_sR σ103 15 a0 (some q103) → ¬ (30 : Int32) < 0 ∧ (30 : Int32).toNatClampNeg ≤ 100000 ∧ 1 ≤ ((((((((((((((bc - 1) - 1) - 1) - 1) - 1) - 1) - c61) - 1) - c72) - 1) - c83) - 1) - c94) - 1) ∧ (30 : Int32).toNatClampNeg ≤ ((((((((((((((bs - 7) - (10 : Int32).toNatClampNeg) - (8 : Int32).toNatClampNeg) - (400 : Int32).toNatClampNeg) - 5) - 2) - s61) - 7) - s72) - 2) - s83) - 9) - s94) - (30 : Int32).toNatClampNeg) ∧ ∀ q111, q111 ∉ gc_d σ105 → gc_A θ q111 → ∀ σ111, σ111 = gc_new σ105 q111 14 (30 : Int32).toNatClampNeg → gc_is σ111 a0 0 ∧ ∀ σ113, σ113 = gc_sR σ111 16 a0 (some q111) → ¬ (120 : Int32) < 0 ∧ (120 : Int32).toNatClampNeg ≤ 100000 ∧ 1 ≤ (((((((((((((((bc - 1) - 1) - 1) - 1) - 1) - 1) - c61) - 1) - c72) - 1) - c83) - 1) - c94) - 1) - 1) ∧ (120 : Int32).toNatClampNeg ≤ (((((((((((((((bs - 7) - (10 : Int32).toNatClampNeg) - (8 : Int32).toNatClampNeg) - (400 : Int32).toNatClampNeg) - 5) - 2) - s61) - 7) - s72) - 2) - s83) - 9) - s94) - (30 : Int32).toNatClampNeg) - (30 : Int32).toNatClampNeg) ∧ ∀ q119, q119 ∉ gc_d σ113 → gc_A θ q119 → ∀ σ119, σ119 = gc_new σ113 q119 14 (120 : Int32).toNatClampNeg → gc_is σ119 a0 0 ∧ ∀ σ121, σ121 = gc_sR σ119 18 a0 (some q119) → ¬ (120 : Int32) < 0 ∧ (120 : Int32).toNatClampNeg ≤ 100000 ∧ 1 ≤ ((((((((((((((((bc - 1) - 1) - 1) - 1) - 1) - 1) - c61) - 1) - c72) - 1) - c83) - 1) - c94) - 1) - 1) - 1) ∧ (120 : Int32).toNatClampNeg ≤ ((((((((((((((((bs - 7) - (10 : Int32).toNatClampNeg) - (8 : Int32).toNatClampNeg) - (400 : Int32).toNatClampNeg) - 5) - 2) - s61) - 7) - s72) - 2) - s83) - 9) - s94) - (30 : Int32).toNatClampNeg) - (30 : Int32).toNatClampNeg) - (120 : Int32).toNatClampNeg) ∧ ∀ q127, q127 ∉ gc_d σ121 → gc_A θ q127 → ∀ σ127, σ127 = gc_new σ121 q127 14 (120 : Int32).toNatClampNeg → gc_is σ127 a0 0 ∧ ∀ σ129, σ129 = gc_sR σ127 19 a0 (some q127) → ¬ (120 : Int32) < 0 ∧ (120 : Int32).toNatClampNeg ≤ 100000 ∧ 1 ≤ (((((((((((((((((bc - 1) - 1) - 1) - 1) - 1) - 1) - c61) - 1) - c72) - 1) - c83) - 1) - c94) - 1) - 1) - 1) - 1) ∧ (120 : Int32).toNatClampNeg ≤ (((((((((((((((((bs - 7) - (10 : Int32).toNatClampNeg) - (8 : Int32).toNatClampNeg) - (400 : Int32).toNatClampNeg) - 5) - 2) - s61) - 7) - s72) - 2) - s83) - 9) - s94) - (30 : Int32).toNatClampNeg) - (30 : Int32).toNatClampNeg) - (120 : Int32).toNatClampNeg) - (120 : Int32).toNatClampNeg) ∧ ∀ q135, q135 ∉ gc_d σ129 → gc_A θ q135 → ∀ σ135, σ135 = gc_new σ129 q135 14 (120 : Int32).toNatClampNeg → gc_is σ135 a0 0 ∧ ∀ σ137, σ137 = gc_sR σ135 20 a0 (some q135) → P σ137))))))))))) : gc_G θ K (nX0_init (n + 1) c s) (gc_Pv P) 0 [(0, va_rf (some a0))] [] σ bc bs := by
  refine gx_aload_nq (r := some a0) h 0 rfl dX0_init_0 ?_
  refine gcc_X0_28 (n := n) (r := some a0) h rfl ⟨Nat.le_refl _, Nat.le_refl _⟩ rfl (Nat.le_of_ble_eq_true rfl) dX0_init_1 ?_
  refine gx_aload_nq (r := some a0) h 0 rfl dX0_init_4 ?_
  refine gc_newF h rfl q107 q161 ⟨by show 6 ≤ n + 1; omega, by show 200 ≤ 40 * (n + 1); omega⟩ (Nat.le_of_ble_eq_true rfl) dX0_init_5 dX0_init_8 dX0_init_9 k.2.1 k.2.2.1 (fun q5 hq hA r5a r5b => ?_)
  generalize hz : gc_sR (gc_sR (gc_sR (gc_new σ q5 1 0) 100 q5 (some q5)) 101 q5 r5a) 102 q5 r5b = σ5
  replace k := k.2.2.2 q5 hq hA r5a r5b σ5 hz.symm
  refine gcp_X0_36 (v := some q5) h rfl rfl rfl k.1 dX0_init_12 ?_
  generalize hz : gc_sR σ5 0 a0 (some q5) = σ12
  replace k := k.2 σ12 hz.symm
  refine gx_aload_nq (r := some a0) h 0 rfl dX0_init_15 ?_
  refine gx_bipush (v := 10) h dX0_init_16 (by decide) ?_
  refine gc_newa (atype := .int) (k := 14) (t := 0) (ty := .int) (by decide) (by decide) rfl rfl rfl (by decide) q212 h k.1 k.2.1 dX0_init_18 k.2.2.1 k.2.2.2.1 (fun q18 hq hA => ?_)
  generalize hz : gc_new σ12 q18 14 (10 : Int32).toNatClampNeg = σ18
  replace k := k.2.2.2.2 q18 hq hA σ18 hz.symm
  refine gcp_X0_40 (v := some q18) h rfl rfl rfl k.1 dX0_init_20 ?_
  generalize hz : gc_sR σ18 1 a0 (some q18) = σ20
  replace k := k.2 σ20 hz.symm
  refine gx_aload_nq (r := some a0) h 0 rfl dX0_init_23 ?_
  refine gx_bipush (v := 8) h dX0_init_24 (by decide) ?_
  refine gc_newq (k := 19) (t := 5) (by decide) rfl h rfl q188 q189 k.1 k.2.1 dX0_init_26 k.2.2.1 k.2.2.2.1 (fun q26 hq hA => ?_)
  generalize hz : gc_new σ20 q26 19 (8 : Int32).toNatClampNeg = σ26
  replace k := k.2.2.2.2 q26 hq hA σ26 hz.symm
  refine gcp_X0_46 (v := some q26) h rfl rfl rfl k.1 dX0_init_29 ?_
  generalize hz : gc_sR σ26 2 a0 (some q26) = σ29
  replace k := k.2 σ29 hz.symm
  refine gx_aload_nq (r := some a0) h 0 rfl dX0_init_32 ?_
  refine gx_sipush (v := 400) h dX0_init_33 (by decide) ?_
  refine gc_newa (atype := .byte) (k := 15) (t := 1) (ty := .byte) (by decide) (by decide) rfl rfl rfl (by decide) q213 h k.1 k.2.1 dX0_init_36 k.2.2.1 k.2.2.2.1 (fun q36 hq hA => ?_)
  generalize hz : gc_new σ29 q36 15 (400 : Int32).toNatClampNeg = σ36
  replace k := k.2.2.2.2 q36 hq hA σ36 hz.symm
  refine gcp_X0_50 (v := some q36) h rfl rfl rfl k.1 dX0_init_38 ?_
  generalize hz : gc_sR σ36 4 a0 (some q36) = σ38
  replace k := k.2 σ38 hz.symm
  refine gx_aload_nq (r := some a0) h 0 rfl dX0_init_41 ?_
  refine gc_obj (k := 2) (C := RX2) (T := TX2) (N := 5) rfl (by decide) rfl in_X2 tyX2_ok nd_X2 h rfl q190 q191 q71 dX0_init_42 k.1 k.2.1 (fun q42 hq hA => ?_)
  generalize hz : gc_new σ38 q42 2 0 = σ42
  replace k := k.2.2 q42 hq hA σ42 hz.symm
  refine gx_dup h rfl dX0_init_45 ?_
  refine gx_aload_nq (r := some a0) h 0 rfl dX0_init_46 ?_
  refine gcg_X0_36 h rfl rfl k.1 dX0_init_47 ?_
  replace k := k.2
  refine gcc_X0_56 (r := some q42) (a0 := gc_R σ42 0 a0) h rfl ⟨Nat.le_refl _, Nat.le_refl _⟩ rfl (Nat.le_of_ble_eq_true rfl) dX0_init_50 (gx_C.mono k ?_)
  rintro _ σ50 ⟨rfl, k⟩
  refine ⟨rfl, ?_⟩
  refine gcp_X0_59 (v := some q42) h rfl rfl rfl k.1 dX0_init_53 ?_
  generalize hz : gc_sR σ50 6 a0 (some q42) = σ53
  replace k := k.2 σ53 hz.symm
  refine gx_aload_nq (r := some a0) h 0 rfl dX0_init_56 ?_
  refine gc_obj (k := 3) (C := RX3) (T := TX3) (N := 2) rfl (by decide) rfl in_X3 tyX3_ok nd_X3 h rfl q214 q215 q72 dX0_init_57 k.1 k.2.1 (fun q57 hq hA => ?_)
  generalize hz : gc_new σ53 q57 3 0 = σ57
  replace k := k.2.2 q57 hq hA σ57 hz.symm
  refine gx_dup h rfl dX0_init_60 ?_
  obtain ⟨c61, s61, hb61, k⟩ := k
  refine gcc_X0_65 (r := some q57)  h rfl ⟨Nat.le_refl _, Nat.le_refl _⟩ hb61 rfl (Nat.le_of_ble_eq_true rfl) dX0_init_61 (gx_C.mono k ?_)
  rintro _ σ61 ⟨rfl, k⟩
  refine ⟨rfl, ?_⟩
  refine gcp_X0_66 (v := some q57) h rfl rfl rfl k.1 dX0_init_64 ?_
  generalize hz : gc_sR σ61 7 a0 (some q57) = σ64
  replace k := k.2 σ64 hz.symm
  refine gx_aload_nq (r := some a0) h 0 rfl dX0_init_67 ?_
  refine gc_obj (k := 4) (C := RX4) (T := TX4) (N := 7) rfl (by decide) rfl in_X4 tyX4_ok nd_X4 h rfl q229 q230 q73 dX0_init_68 k.1 k.2.1 (fun q68 hq hA => ?_)
  generalize hz : gc_new σ64 q68 4 0 = σ68
  replace k := k.2.2 q68 hq hA σ68 hz.symm
  refine gx_dup h rfl dX0_init_71 ?_
  obtain ⟨c72, s72, hb72, k⟩ := k
  refine gcc_X0_72 (r := some q68)  h rfl ⟨Nat.le_refl _, Nat.le_refl _⟩ hb72 rfl (Nat.le_of_ble_eq_true rfl) dX0_init_72 (gx_C.mono k ?_)
  rintro _ σ72 ⟨rfl, k⟩
  refine ⟨rfl, ?_⟩
  refine gcp_X0_73 (v := some q68) h rfl rfl rfl k.1 dX0_init_75 ?_
  generalize hz : gc_sR σ72 8 a0 (some q68) = σ75
  replace k := k.2 σ75 hz.symm
  refine gx_aload_nq (r := some a0) h 0 rfl dX0_init_78 ?_
  refine gc_obj (k := 5) (C := RX5) (T := TX5) (N := 2) rfl (by decide) rfl in_X5 tyX5_ok nd_X5 h rfl q265 q266 q74 dX0_init_79 k.1 k.2.1 (fun q79 hq hA => ?_)
  generalize hz : gc_new σ75 q79 5 0 = σ79
  replace k := k.2.2 q79 hq hA σ79 hz.symm
  refine gx_dup h rfl dX0_init_82 ?_
  obtain ⟨c83, s83, hb83, k⟩ := k
  refine gcc_X0_79 (r := some q79)  h rfl ⟨Nat.le_refl _, Nat.le_refl _⟩ hb83 rfl (Nat.le_of_ble_eq_true rfl) dX0_init_83 (gx_C.mono k ?_)
  rintro _ σ83 ⟨rfl, k⟩
  refine ⟨rfl, ?_⟩
  refine gcp_X0_80 (v := some q79) h rfl rfl rfl k.1 dX0_init_86 ?_
  generalize hz : gc_sR σ83 9 a0 (some q79) = σ86
  replace k := k.2 σ86 hz.symm
  refine gx_aload_nq (r := some a0) h 0 rfl dX0_init_89 ?_
  refine gc_obj (k := 6) (C := RX6) (T := TX6) (N := 9) rfl (by decide) rfl in_X6 tyX6_ok nd_X6 h rfl q280 q281 q75 dX0_init_90 k.1 k.2.1 (fun q90 hq hA => ?_)
  generalize hz : gc_new σ86 q90 6 0 = σ90
  replace k := k.2.2 q90 hq hA σ90 hz.symm
  refine gx_dup h rfl dX0_init_93 ?_
  obtain ⟨c94, s94, hb94, k⟩ := k
  refine gcc_X0_86 (r := some q90)  h rfl ⟨Nat.le_refl _, Nat.le_refl _⟩ hb94 rfl (Nat.le_of_ble_eq_true rfl) dX0_init_94 (gx_C.mono k ?_)
  rintro _ σ94 ⟨rfl, k⟩
  refine ⟨rfl, ?_⟩
  refine gcp_X0_87 (v := some q90) h rfl rfl rfl k.1 dX0_init_97 ?_
  generalize hz : gc_sR σ94 10 a0 (some q90) = σ97
  replace k := k.2 σ97 hz.symm
  refine gx_aload_nq (r := some a0) h 0 rfl dX0_init_100 ?_
  refine gx_bipush (v := 30) h dX0_init_101 (by decide) ?_
  refine gc_newa (atype := .int) (k := 14) (t := 0) (ty := .int) (by decide) (by decide) rfl rfl rfl (by decide) q212 h k.1 k.2.1 dX0_init_103 k.2.2.1 k.2.2.2.1 (fun q103 hq hA => ?_)
  generalize hz : gc_new σ97 q103 14 (30 : Int32).toNatClampNeg = σ103
  replace k := k.2.2.2.2 q103 hq hA σ103 hz.symm
  refine gcp_X0_91 (v := some q103) h rfl rfl rfl k.1 dX0_init_105 ?_
  generalize hz : gc_sR σ103 15 a0 (some q103) = σ105
  replace k := k.2 σ105 hz.symm
  refine gx_aload_nq (r := some a0) h 0 rfl dX0_init_108 ?_
  refine gx_bipush (v := 30) h dX0_init_109 (by decide) ?_
  refine gc_newa (atype := .int) (k := 14) (t := 0) (ty := .int) (by decide) (by decide) rfl rfl rfl (by decide) q212 h k.1 k.2.1 dX0_init_111 k.2.2.1 k.2.2.2.1 (fun q111 hq hA => ?_)
  generalize hz : gc_new σ105 q111 14 (30 : Int32).toNatClampNeg = σ111
  replace k := k.2.2.2.2 q111 hq hA σ111 hz.symm
  refine gcp_X0_94 (v := some q111) h rfl rfl rfl k.1 dX0_init_113 ?_
  generalize hz : gc_sR σ111 16 a0 (some q111) = σ113
  replace k := k.2 σ113 hz.symm
  refine gx_aload_nq (r := some a0) h 0 rfl dX0_init_116 ?_
  refine gx_bipush (v := 120) h dX0_init_117 (by decide) ?_
  refine gc_newa (atype := .int) (k := 14) (t := 0) (ty := .int) (by decide) (by decide) rfl rfl rfl (by decide) q212 h k.1 k.2.1 dX0_init_119 k.2.2.1 k.2.2.2.1 (fun q119 hq hA => ?_)
  generalize hz : gc_new σ113 q119 14 (120 : Int32).toNatClampNeg = σ119
  replace k := k.2.2.2.2 q119 hq hA σ119 hz.symm
  refine gcp_X0_97 (v := some q119) h rfl rfl rfl k.1 dX0_init_121 ?_
  generalize hz : gc_sR σ119 18 a0 (some q119) = σ121
  replace k := k.2 σ121 hz.symm
  refine gx_aload_nq (r := some a0) h 0 rfl dX0_init_124 ?_
  refine gx_bipush (v := 120) h dX0_init_125 (by decide) ?_
  refine gc_newa (atype := .int) (k := 14) (t := 0) (ty := .int) (by decide) (by decide) rfl rfl rfl (by decide) q212 h k.1 k.2.1 dX0_init_127 k.2.2.1 k.2.2.2.1 (fun q127 hq hA => ?_)
  generalize hz : gc_new σ121 q127 14 (120 : Int32).toNatClampNeg = σ127
  replace k := k.2.2.2.2 q127 hq hA σ127 hz.symm
  refine gcp_X0_100 (v := some q127) h rfl rfl rfl k.1 dX0_init_129 ?_
  generalize hz : gc_sR σ127 19 a0 (some q127) = σ129
  replace k := k.2 σ129 hz.symm
  refine gx_aload_nq (r := some a0) h 0 rfl dX0_init_132 ?_
  refine gx_bipush (v := 120) h dX0_init_133 (by decide) ?_
  refine gc_newa (atype := .int) (k := 14) (t := 0) (ty := .int) (by decide) (by decide) rfl rfl rfl (by decide) q212 h k.1 k.2.1 dX0_init_135 k.2.2.1 k.2.2.2.1 (fun q135 hq hA => ?_)
  generalize hz : gc_new σ129 q135 14 (120 : Int32).toNatClampNeg = σ135
  replace k := k.2.2.2.2 q135 hq hA σ135 hz.symm
  refine gcp_X0_103 (v := some q135) h rfl rfl rfl k.1 dX0_init_137 ?_
  generalize hz : gc_sR σ135 20 a0 (some q135) = σ137
  replace k := k.2 σ137 hz.symm
  exact gx_vret h rfl dX0_init_140 (⟨rfl, k⟩)
/-! X0.feed -/
theorem ec_X0_feed {θ : gc_T} {P : Int32 → gc_S → Prop} {σ : gc_S} {n : Nat} {a0 : Nat} {x1 : Int64} {x3 : Int32} (body : ∀ K, gc_K θ K (nX0_feed (n + 1)) → gc_G θ K (nX0_feed (n + 1)) (gc_Pi P) 0 [(0, va_rf (some a0)), (1, .long x1), (3, .int x3)] [] σ 0 0) : gx_C (gc_O θ) (nX0_feed (n + 1)) [.ref a0, .long x1, .int x3] σ (gc_Pi P) :=
  gx_C.intro (gc_z_warm θ) rfl (Nat.le_of_ble_eq_true rfl) body
theorem bc_X0_feed_0 {θ : gc_T} {K : gx_K} {P : Int32 → gc_S → Prop} {σ : gc_S} {x3 : Int32} {x1 : Int64} {a0 n bc bs : Nat} (h : gc_K θ K (nX0_feed (n + 1))) (k : ((x3 < 1 → gc_G θ K (nX0_feed (n + 1)) (gc_Pi P) 16 [(0, va_rf (some a0)), (1, .long x1), (3, .int x3)] [va_rf (some a0)] σ bc bs) ∧ (¬ x3 < 1 → ((8 < x3 → gc_G θ K (nX0_feed (n + 1)) (gc_Pi P) 16 [(0, va_rf (some a0)), (1, .long x1), (3, .int x3)] [va_rf (some a0)] σ bc bs) ∧ (¬ 8 < x3 → gc_G θ K (nX0_feed (n + 1)) (gc_Pi P) 17 [(0, va_rf (some a0)), (1, .long x1), (3, .int x3)] [.int 1, va_rf (some a0)] σ bc bs))))) : gc_G θ K (nX0_feed (n + 1)) (gc_Pi P) 0 [(0, va_rf (some a0)), (1, .long x1), (3, .int x3)] [] σ bc bs := by
  refine gx_aload_nq (r := some a0) h 0 rfl dX0_feed_0 ?_
  refine gx_iload_n h 2 rfl dX0_feed_1 ?_
  refine gx_iconst (v := 1) h dX0_feed_2 (by decide) ?_
  refine gx_icmp_lt (tgt := 16) h (by decide) dX0_feed_3 (fun c => ?_) (fun c => ?_)
  · replace k := k.1 c
    exact k
  · replace k := k.2 c
    refine gx_iload_n h 2 rfl dX0_feed_6 ?_
    refine gx_bipush (v := 8) h dX0_feed_7 (by decide) ?_
    refine gx_icmp_gt (tgt := 16) h (by decide) dX0_feed_9 (fun c => ?_) (fun c => ?_)
    · replace k := k.1 c
      exact k
    · replace k := k.2 c
      refine gx_iconst (v := 1) h dX0_feed_12 (by decide) ?_
      refine gx_goto (tgt := 17) h (by decide) dX0_feed_13 ?_
      exact k
theorem bc_X0_feed_16 {θ : gc_T} {K : gx_K} {P : Int32 → gc_S → Prop} {σ : gc_S} {x3 : Int32} {x1 : Int64} {s0 : Option Nat} {a0 n bc bs : Nat} (h : gc_K θ K (nX0_feed (n + 1))) (k : gc_G θ K (nX0_feed (n + 1)) (gc_Pi P) 17 [(0, va_rf (some a0)), (1, .long x1), (3, .int x3)] [.int 0, va_rf s0] σ bc bs) : gc_G θ K (nX0_feed (n + 1)) (gc_Pi P) 16 [(0, va_rf (some a0)), (1, .long x1), (3, .int x3)] [va_rf s0] σ bc bs := by
  refine gx_iconst (v := 0) h dX0_feed_16 (by decide) ?_
  exact k
theorem bc_X0_feed_17 {θ : gc_T} {K : gx_K} {P : Int32 → gc_S → Prop} {σ : gc_S} {x3 s0 : Int32} {x1 : Int64} {s1 : Option Nat} {a0 n bc bs : Nat} (h : gc_K θ K (nX0_feed (n + 1))) (k : ∃ a18_1 : Nat, s1 = some a18_1 ∧ gc_is σ a18_1 0 ∧ gx_C (gc_O θ) (nX0_need n) (.ref a18_1 :: [.int s0, .int (-1)]) σ (gc_Qv (fun σ18 => gc_is σ18 a0 0 ∧ ((400 < ((gc_I σ18 5 a0) + x3) → gc_G θ K (nX0_feed (n + 1)) (gc_Pi P) 39 [(0, va_rf (some a0)), (1, .long x1), (3, .int x3)] [.int 0, va_rf (some a0)] σ18 bc bs) ∧ (¬ 400 < ((gc_I σ18 5 a0) + x3) → gc_G θ K (nX0_feed (n + 1)) (gc_Pi P) 39 [(0, va_rf (some a0)), (1, .long x1), (3, .int x3)] [.int 1, va_rf (some a0)] σ18 bc bs))) (fun a18 σ18 => gc_is σ18 a18 1 ∧ gc_G θ K (nX0_feed (n + 1)) (gc_Pi P) 95 [(0, va_rf (some a0))] [va_rf (some a18)] σ18 bc bs))) : gc_G θ K (nX0_feed (n + 1)) (gc_Pi P) 17 [(0, va_rf (some a0)), (1, .long x1), (3, .int x3)] [.int s0, va_rf s1] σ bc bs := by
  refine gx_iconst (v := (-1)) h dX0_feed_17 (by decide) ?_
  obtain ⟨a18_1, e18_1, k⟩ := k
  refine gcc_X0_131 (r := s1) (a0 := s0) (a1 := (-1)) h rfl ⟨Nat.le_refl _, Nat.le_refl _⟩ e18_1 k.1 (Nat.le_of_ble_eq_true rfl) dX0_feed_18 (gx_C.mono k.2 ?_)
  rintro o σ18 (⟨rfl, k⟩ | ⟨a18, rfl, k⟩)
  · refine Or.inl ⟨rfl, ?_⟩
    refine gx_aload_nq (r := some a0) h 0 rfl dX0_feed_21 ?_
    refine gx_aload_nq (r := some a0) h 0 rfl dX0_feed_22 ?_
    refine gcg_X0_135 h rfl rfl k.1 dX0_feed_23 ?_
    replace k := k.2
    refine gx_iload_n h 2 rfl dX0_feed_26 ?_
    refine gx_iadd h dX0_feed_27 ?_
    refine gx_sipush (v := 400) h dX0_feed_28 (by decide) ?_
    refine gx_icmp_gt (tgt := 38) h (by decide) dX0_feed_31 (fun c => ?_) (fun c => ?_)
    · replace k := k.1 c
      refine gx_iconst (v := 0) h dX0_feed_38 (by decide) ?_
      exact k
    · replace k := k.2 c
      refine gx_iconst (v := 1) h dX0_feed_34 (by decide) ?_
      refine gx_goto (tgt := 39) h (by decide) dX0_feed_35 ?_
      exact k
  · refine Or.inr ⟨a18, rfl, ?_⟩
    refine gc_catchF h rfl q107 q109 [] ⟨0, 94, 95, 33⟩ [] rfl rfl rfl rfl k.1 ?_
    replace k := k.2
    exact gx_sub [0] rfl k
theorem bc_X0_feed_39 {θ : gc_T} {K : gx_K} {P : Int32 → gc_S → Prop} {σ : gc_S} {x3 s0 : Int32} {x1 : Int64} {s1 : Option Nat} {a0 n bc bs : Nat} (h : gc_K θ K (nX0_feed (n + 1))) (k : ∃ a41_1 : Nat, s1 = some a41_1 ∧ gc_is σ a41_1 0 ∧ gx_C (gc_O θ) (nX0_need n) (.ref a41_1 :: [.int s0, .int (-5)]) σ (gc_Qv (fun σ41 => gc_G θ K (nX0_feed (n + 1)) (gc_Pi P) 47 [(0, va_rf (some a0)), (1, .long x1), (3, .int x3), (4, .int 0)] [] σ41 bc bs) (fun a41 σ41 => gc_is σ41 a41 1 ∧ gc_G θ K (nX0_feed (n + 1)) (gc_Pi P) 95 [(0, va_rf (some a0))] [va_rf (some a41)] σ41 bc bs))) : gc_G θ K (nX0_feed (n + 1)) (gc_Pi P) 39 [(0, va_rf (some a0)), (1, .long x1), (3, .int x3)] [.int s0, va_rf s1] σ bc bs := by
  refine gx_bipush (v := (-5)) h dX0_feed_39 (by decide) ?_
  obtain ⟨a41_1, e41_1, k⟩ := k
  refine gcc_X0_131 (r := s1) (a0 := s0) (a1 := (-5)) h rfl ⟨Nat.le_refl _, Nat.le_refl _⟩ e41_1 k.1 (Nat.le_of_ble_eq_true rfl) dX0_feed_41 (gx_C.mono k.2 ?_)
  rintro o σ41 (⟨rfl, k⟩ | ⟨a41, rfl, k⟩)
  · refine Or.inl ⟨rfl, ?_⟩
    refine gx_iconst (v := 0) h dX0_feed_44 (by decide) ?_
    refine gx_istore (L' := [(4, .int 0), (0, va_rf (some a0)), (1, .long x1), (3, .int x3)]) h (Nat.le_of_ble_eq_true rfl) rfl dX0_feed_45 ?_
    exact gx_sub [1, 2, 3, 0] rfl k
  · refine Or.inr ⟨a41, rfl, ?_⟩
    refine gc_catchF h rfl q107 q109 [] ⟨0, 94, 95, 33⟩ [] rfl rfl rfl rfl k.1 ?_
    replace k := k.2
    exact gx_sub [0] rfl k
theorem bc_X0_feed_47 {θ : gc_T} {K : gx_K} {P : Int32 → gc_S → Prop} {σ : gc_S} {x3 x4 : Int32} {x1 : Int64} {a0 n bc bs : Nat} (h : gc_K θ K (nX0_feed (n + 1))) (k : ((x3 ≤ x4 → gc_is σ a0 0 ∧ gc_is σ a0 0 ∧ ∀ σ87, σ87 = gc_sI σ 5 a0 ((gc_I σ 5 a0) + x3) → gc_is σ87 a0 0 ∧ P (gc_I σ87 5 a0) σ87) ∧ (¬ x3 ≤ x4 → gc_is σ a0 0 ∧ gc_is σ a0 0 ∧ ∃ a73_1 : Nat, gc_R σ 4 a0 = some a73_1 ∧ gc_is σ a73_1 15 ∧ vp_in ((gc_I σ 5 a0) + x4) (gc_n σ a73_1) ∧ ∀ σ73, σ73 = gc_sE σ a73_1 ((gc_I σ 5 a0) + x4).toNatClampNeg (vp_nar .byte (((x1 >>> ((8 * x4).toInt64 &&& 63)).toInt32).toInt8.toInt32)) → gc_G θ K (nX0_feed (n + 1)) (gc_Pi P) 47 [(0, va_rf (some a0)), (1, .long x1), (3, .int x3), (4, .int (x4 + 1))] [] σ73 bc bs))) : gc_G θ K (nX0_feed (n + 1)) (gc_Pi P) 47 [(0, va_rf (some a0)), (1, .long x1), (3, .int x3), (4, .int x4)] [] σ bc bs := by
  refine gx_iload h 3 rfl dX0_feed_47 ?_
  refine gx_iload_n h 2 rfl dX0_feed_49 ?_
  refine gx_icmp_ge (tgt := 80) h (by decide) dX0_feed_50 (fun c => ?_) (fun c => ?_)
  · replace k := k.1 c
    refine gx_aload_nq (r := some a0) h 0 rfl dX0_feed_80 ?_
    refine gx_dup h rfl dX0_feed_81 ?_
    refine gcg_X0_135 h rfl rfl k.1 dX0_feed_82 ?_
    replace k := k.2
    refine gx_iload_n h 2 rfl dX0_feed_85 ?_
    refine gx_iadd h dX0_feed_86 ?_
    refine gcp_X0_135 (v := (gc_I σ 5 a0) + x3) h rfl rfl k.1 dX0_feed_87 ?_
    generalize hz : gc_sI σ 5 a0 ((gc_I σ 5 a0) + x3) = σ87
    replace k := k.2 σ87 hz.symm
    refine gx_aload_nq (r := some a0) h 0 rfl dX0_feed_90 ?_
    refine gcg_X0_135 h rfl rfl k.1 dX0_feed_91 ?_
    replace k := k.2
    exact gx_iret h rfl dX0_feed_94 (⟨_, rfl, k⟩)
  · replace k := k.2 c
    refine gx_aload_nq (r := some a0) h 0 rfl dX0_feed_53 ?_
    refine gcg_X0_50 h rfl rfl k.1 dX0_feed_54 ?_
    replace k := k.2
    refine gx_aload_nq (r := some a0) h 0 rfl dX0_feed_57 ?_
    refine gcg_X0_135 h rfl rfl k.1 dX0_feed_58 ?_
    replace k := k.2
    refine gx_iload h 3 rfl dX0_feed_61 ?_
    refine gx_iadd h dX0_feed_63 ?_
    refine gx_lload_n h 1 rfl dX0_feed_64 ?_
    refine gx_bipush (v := 8) h dX0_feed_65 (by decide) ?_
    refine gx_iload h 3 rfl dX0_feed_67 ?_
    refine gx_imul h dX0_feed_69 ?_
    refine gx_lshr h dX0_feed_70 ?_
    refine gx_l2i h dX0_feed_71 ?_
    refine gx_i2b h dX0_feed_72 ?_
    obtain ⟨a73_1, e73_1, k⟩ := k
    refine gc_bastE (r := gc_R σ 4 a0) h e73_1 k.1 k.2.1 dX0_feed_73 ?_
    generalize hz : gc_sE σ a73_1 ((gc_I σ 5 a0) + x4).toNatClampNeg (vp_nar .byte (((x1 >>> ((8 * x4).toInt64 &&& 63)).toInt32).toInt8.toInt32)) = σ73
    replace k := k.2.2 σ73 hz.symm
    refine gx_iinc (v := x4 + 1) (L' := [(4, .int (x4 + 1)), (0, va_rf (some a0)), (1, .long x1), (3, .int x3)]) h 3 rfl rfl (Nat.le_of_ble_eq_true rfl) rfl dX0_feed_74 ?_
    refine gx_goto (tgt := 47) h (by decide) dX0_feed_77 ?_
    exact gx_sub [1, 2, 3, 0] rfl k
theorem bc_X0_feed_95 {θ : gc_T} {K : gx_K} {P : Int32 → gc_S → Prop} {σ : gc_S} {a0 s0 n bc bs : Nat} (h : gc_K θ K (nX0_feed (n + 1))) (k : gc_is σ a0 0 ∧ gx_C (gc_O θ) (nX0_finds n) (.ref a0 :: [va_rf (some s0)]) σ (gc_Pi (fun r100 σ100 => P r100 σ100))) : gc_G θ K (nX0_feed (n + 1)) (gc_Pi P) 95 [(0, va_rf (some a0))] [va_rf (some s0)] σ bc bs := by
  refine gx_astoreq (r := some s0) (L' := [(4, va_rf (some s0)), (0, va_rf (some a0))]) h (Nat.le_of_ble_eq_true rfl) rfl dX0_feed_95 ?_
  refine gx_aload_nq (r := some a0) h 1 rfl dX0_feed_97 ?_
  refine gx_aloadq (r := some s0) h 0 rfl dX0_feed_98 ?_
  refine gcc_X0_138 (r := some a0) (a0 := some s0) h rfl ⟨Nat.le_refl _, Nat.le_refl _⟩ rfl k.1 (Nat.le_of_ble_eq_true rfl) dX0_feed_100 (gx_C.mono k.2 ?_)
  rintro _ σ100 ⟨r100, rfl, k⟩
  refine ⟨r100, rfl, ?_⟩
  exact gx_iret h rfl dX0_feed_103 (⟨_, rfl, k⟩)
/-! X0.need -/
theorem ec_X0_need {θ : gc_T} {P : gc_S → Prop} {T : Nat → gc_S → Prop} {σ : gc_S} {n : Nat} {a0 : Nat} {x1 : Int32} {x2 : Int32} (body : ∀ K, gc_K θ K (nX0_need (n + 1)) → gc_G θ K (nX0_need (n + 1)) (gc_Qv P T) 0 [(0, va_rf (some a0)), (1, .int x1), (2, .int x2)] [] σ 0 0) : gx_C (gc_O θ) (nX0_need (n + 1)) [.ref a0, .int x1, .int x2] σ (gc_Qv P T) :=
  gx_C.intro (gc_z_warm θ) rfl (Nat.le_of_ble_eq_true rfl) body
theorem bc_X0_need_0 {θ : gc_T} {K : gx_K} {P : gc_S → Prop} {T : Nat → gc_S → Prop} {σ : gc_S} {x1 x2 : Int32} {a0 n bc bs : Nat} (h : gc_K θ K (nX0_need (n + 1))) (k : ((x1 = 0 → gc_is σ a0 0 ∧ ∃ a9_1 : Nat, gc_R σ 0 a0 = some a9_1 ∧ gc_is σ a9_1 1 ∧ gx_C (gc_O θ) (nX1_of n) (.ref a9_1 :: [.int x2]) σ (gc_Pr (fun r9 σ9 => ∃ a12_2 : Nat, r9 = some a12_2 ∧ T a12_2 σ9))) ∧ (¬ x1 = 0 → P σ))) : gc_G θ K (nX0_need (n + 1)) (gc_Qv P T) 0 [(0, va_rf (some a0)), (1, .int x1), (2, .int x2)] [] σ bc bs := by
  refine gx_iload_n h 1 rfl dX0_need_0 ?_
  refine gx_if_ne (tgt := 13) h (by decide) dX0_need_1 (fun c => ?_) (fun c => ?_)
  · replace k := k.2 c
    exact gx_vret h rfl dX0_need_13 (Or.inl ⟨rfl, k⟩)
  · replace k := k.1 c
    refine gx_aload_nq (r := some a0) h 0 rfl dX0_need_4 ?_
    refine gcg_X0_36 h rfl rfl k.1 dX0_need_5 ?_
    replace k := k.2
    refine gx_iload_n h 2 rfl dX0_need_8 ?_
    obtain ⟨a9_1, e9_1, k⟩ := k
    refine gcc_X0_106 (r := gc_R σ 0 a0) (a0 := x2) h rfl ⟨Nat.le_refl _, Nat.le_refl _⟩ e9_1 k.1 (Nat.le_of_ble_eq_true rfl) dX0_need_9 (gx_C.mono k.2 ?_)
    rintro _ σ9 ⟨r9, rfl, k⟩
    refine ⟨r9, rfl, ?_⟩
    obtain ⟨a12_2, e12_2, k⟩ := k
    refine gc_athrow (r := r9) h e12_2 dX0_need_12 ?_
    exact gx_out h rfl (Or.inr ⟨_, rfl, k⟩)
/-! X0.finds -/
theorem ec_X0_finds {θ : gc_T} {P : Int32 → gc_S → Prop} {σ : gc_S} {n : Nat} {a0 : Nat} {x1 : Option Nat} (body : ∀ K, gc_K θ K (nX0_finds n) → gc_G θ K (nX0_finds n) (gc_Pi P) 0 [(0, va_rf (some a0)), (1, va_rf x1)] [] σ 0 0) : gx_C (gc_O θ) (nX0_finds n) [.ref a0, va_rf x1] σ (gc_Pi P) := by
  refine gx_C.intro (gc_z_warm θ) rfl (by cases x1 <;> exact Nat.le_of_ble_eq_true rfl) (fun K h => ?_)
  have k := body K h
  cases x1 <;> exact k
theorem bc_X0_finds_0 {θ : gc_T} {K : gx_K} {P : Int32 → gc_S → Prop} {σ : gc_S} {x1 : Option Nat} {a0 n bc bs : Nat} (h : gc_K θ K (nX0_finds n)) (k : gc_is σ a0 0 ∧ ∃ a5_1 : Nat, x1 = some a5_1 ∧ gc_is σ a5_1 1 ∧ (((-10) < (gc_I σ 106 a5_1) → gc_is σ a5_1 1 ∧ ∃ a24_2 : Nat, gc_R σ 1 a0 = some a24_2 ∧ gc_is σ a24_2 14 ∧ vp_in (-(gc_I σ 106 a5_1)) (gc_n σ a24_2) ∧ gc_is σ a24_2 14 ∧ vp_in (-(gc_I σ 106 a5_1)) (gc_n σ a24_2) ∧ ∀ σ27, σ27 = gc_sE σ a24_2 (-(gc_I σ 106 a5_1)).toNatClampNeg ((gc_E σ a24_2 (-(gc_I σ 106 a5_1)).toNatClampNeg) + 1) → gc_is σ27 a5_1 1 ∧ P (gc_I σ27 106 a5_1) σ27) ∧ (¬ (-10) < (gc_I σ 106 a5_1) → ∃ a24_3 : Nat, gc_R σ 1 a0 = some a24_3 ∧ gc_is σ a24_3 14 ∧ vp_in 9 (gc_n σ a24_3) ∧ gc_is σ a24_3 14 ∧ vp_in 9 (gc_n σ a24_3) ∧ ∀ σ27, σ27 = gc_sE σ a24_3 (9 : Int32).toNatClampNeg ((gc_E σ a24_3 (9 : Int32).toNatClampNeg) + 1) → gc_is σ27 a5_1 1 ∧ P (gc_I σ27 106 a5_1) σ27))) : gc_G θ K (nX0_finds n) (gc_Pi P) 0 [(0, va_rf (some a0)), (1, va_rf x1)] [] σ bc bs := by
  refine gx_aload_nq (r := some a0) h 0 rfl dX0_finds_0 ?_
  refine gcg_X0_40 h rfl rfl k.1 dX0_finds_1 ?_
  replace k := k.2
  refine gx_aload_nq (r := x1) h 1 rfl dX0_finds_4 ?_
  obtain ⟨a5_1, e5_1, k⟩ := k
  refine gcg_X0_110 h rfl e5_1 k.1 dX0_finds_5 ?_
  replace k := k.2
  refine gx_bipush (v := (-10)) h dX0_finds_8 (by decide) ?_
  refine gx_icmp_gt (tgt := 18) h (by decide) dX0_finds_10 (fun c => ?_) (fun c => ?_)
  · replace k := k.1 c
    refine gx_aload_nq (r := x1) h 1 rfl dX0_finds_18 ?_
    refine gcg_X0_110 h rfl e5_1 k.1 dX0_finds_19 ?_
    replace k := k.2
    refine gx_ineg h dX0_finds_22 ?_
    refine gx_dup2 h rfl (gx_cat _) dX0_finds_23 ?_
    obtain ⟨a24_2, e24_2, k⟩ := k
    refine gc_ialdE (r := gc_R σ 1 a0) h e24_2 k.1 k.2.1 dX0_finds_24 ?_
    replace k := k.2.2
    refine gx_iconst (v := 1) h dX0_finds_25 (by decide) ?_
    refine gx_iadd h dX0_finds_26 ?_
    refine gc_iastE (r := gc_R σ 1 a0) h e24_2 k.1 k.2.1 dX0_finds_27 ?_
    generalize hz : gc_sE σ a24_2 (-(gc_I σ 106 a5_1)).toNatClampNeg ((gc_E σ a24_2 (-(gc_I σ 106 a5_1)).toNatClampNeg) + 1) = σ27
    replace k := k.2.2 σ27 hz.symm
    refine gx_aload_nq (r := x1) h 1 rfl dX0_finds_28 ?_
    refine gcg_X0_110 h rfl e5_1 k.1 dX0_finds_29 ?_
    replace k := k.2
    exact gx_iret h rfl dX0_finds_32 (⟨_, rfl, k⟩)
  · replace k := k.2 c
    refine gx_bipush (v := 9) h dX0_finds_13 (by decide) ?_
    refine gx_goto (tgt := 23) h (by decide) dX0_finds_15 ?_
    refine gx_dup2 h rfl (gx_cat _) dX0_finds_23 ?_
    obtain ⟨a24_3, e24_3, k⟩ := k
    refine gc_ialdE (r := gc_R σ 1 a0) h e24_3 k.1 k.2.1 dX0_finds_24 ?_
    replace k := k.2.2
    refine gx_iconst (v := 1) h dX0_finds_25 (by decide) ?_
    refine gx_iadd h dX0_finds_26 ?_
    refine gc_iastE (r := gc_R σ 1 a0) h e24_3 k.1 k.2.1 dX0_finds_27 ?_
    generalize hz : gc_sE σ a24_3 (9 : Int32).toNatClampNeg ((gc_E σ a24_3 (9 : Int32).toNatClampNeg) + 1) = σ27
    replace k := k.2.2 σ27 hz.symm
    refine gx_aload_nq (r := x1) h 1 rfl dX0_finds_28 ?_
    refine gcg_X0_110 h rfl e5_1 k.1 dX0_finds_29 ?_
    replace k := k.2
    exact gx_iret h rfl dX0_finds_32 (⟨_, rfl, k⟩)
/-! X0.read -/
theorem ec_X0_read {θ : gc_T} {P : Int32 → gc_S → Prop} {σ : gc_S} {n c s : Nat} {a0 : Nat} {x1 : Int32} (body : ∀ K, gc_K θ K (nX0_read (n + 1) c s) → gc_G θ K (nX0_read (n + 1) c s) (gc_Pi P) 0 [(0, va_rf (some a0)), (1, .int x1)] [] σ c s) : gx_C (gc_O θ) (nX0_read (n + 1) c s) [.ref a0, .int x1] σ (gc_Pi P) :=
  gx_C.intro (gc_z_warm θ) rfl (Nat.le_of_ble_eq_true rfl) body
theorem bc_X0_read_0 {θ : gc_T} {K : gx_K} {P : Int32 → gc_S → Prop} {σ : gc_S} {x1 : Int32} {a0 n c s bc bs : Nat} (h : gc_K θ K (nX0_read (n + 1) c s)) (k : gx_C (gc_O θ) (nX0_isPlace n) [.int x1] σ (gc_Pi (fun r2 σ2 => gc_is σ2 a0 0 ∧ gx_C (gc_O θ) (nX0_need n) (.ref a0 :: [.int r2, .int (-1)]) σ2 (gc_Qv (fun σ6 => gc_is σ6 a0 0 ∧ gc_is σ6 a0 0 ∧ ∀ σ16, σ16 = gc_sI σ6 5 a0 0 → 1 ≤ bc ∧ 5 ≤ bs ∧ ∀ q19, q19 ∉ gc_d σ16 → gc_A θ q19 → ∀ σ19, σ19 = gc_new σ16 q19 7 0 → gc_is σ19 a0 0 ∧ gc_is σ19 a0 0 ∧ ∃ a32_1 : Nat, gc_R σ19 6 a0 = some a32_1 ∧ ∃ c32 s32 : Nat, (c32 ≤ (bc - 1) ∧ s32 ≤ (bs - 5)) ∧ gc_is σ19 a32_1 2 ∧ gx_C (gc_O θ) (nX2_read n c32 s32) (.ref a32_1 :: [va_rf (gc_R σ19 4 a0), .int (gc_I σ6 5 a0)]) σ19 (gc_Qr (fun r32 σ32 => ∃ c35 s35 : Nat, (c35 ≤ ((bc - 1) - c32) ∧ s35 ≤ ((bs - 5) - s32)) ∧ gx_C (gc_O θ) (nX8_init n c35 s35) (.ref q19 :: [va_rf r32]) σ32 (gc_Pv (fun σ35 => gc_G θ K (nX0_read (n + 1) c s) (gc_Pi P) 42 [(0, va_rf (some a0)), (1, .int x1), (3, va_rf (some q19)), (4, .int 0)] [] σ35 (((bc - 1) - c32) - c35) (((bs - 5) - s32) - s35)))) (fun a32 σ32 => gc_is σ32 a32 1 ∧ gc_G θ K (nX0_read (n + 1) c s) (gc_Pi P) 93 [(0, va_rf (some a0))] [va_rf (some a32)] σ32 ((bc - 1) - c32) ((bs - 5) - s32)))) (fun a6 σ6 => gc_is σ6 a6 1 ∧ gc_G θ K (nX0_read (n + 1) c s) (gc_Pi P) 93 [(0, va_rf (some a0))] [va_rf (some a6)] σ6 bc bs))))) : gc_G θ K (nX0_read (n + 1) c s) (gc_Pi P) 0 [(0, va_rf (some a0)), (1, .int x1)] [] σ bc bs := by
  refine gx_aload_nq (r := some a0) h 0 rfl dX0_read_0 ?_
  refine gx_iload_n h 1 rfl dX0_read_1 ?_
  refine gcc_X0_142 (a0 := x1) h rfl ⟨Nat.le_refl _, Nat.le_refl _⟩ (Nat.le_of_ble_eq_true rfl) dX0_read_2 (gx_C.mono k ?_)
  rintro _ σ2 ⟨r2, rfl, k⟩
  refine ⟨r2, rfl, ?_⟩
  refine gx_iconst (v := (-1)) h dX0_read_5 (by decide) ?_
  refine gcc_X0_131 (r := some a0) (a0 := r2) (a1 := (-1)) h rfl ⟨Nat.le_refl _, Nat.le_refl _⟩ rfl k.1 (Nat.le_of_ble_eq_true rfl) dX0_read_6 (gx_C.mono k.2 ?_)
  rintro o σ6 (⟨rfl, k⟩ | ⟨a6, rfl, k⟩)
  · refine Or.inl ⟨rfl, ?_⟩
    refine gx_aload_nq (r := some a0) h 0 rfl dX0_read_9 ?_
    refine gcg_X0_135 h rfl rfl k.1 dX0_read_10 ?_
    replace k := k.2
    refine gx_istore_n (L' := [(2, .int (gc_I σ6 5 a0)), (0, va_rf (some a0)), (1, .int x1)]) h (Nat.le_of_ble_eq_true rfl) rfl dX0_read_13 ?_
    refine gx_aload_nq (r := some a0) h 1 rfl dX0_read_14 ?_
    refine gx_iconst (v := 0) h dX0_read_15 (by decide) ?_
    refine gcp_X0_135 (v := 0) h rfl rfl k.1 dX0_read_16 ?_
    generalize hz : gc_sI σ6 5 a0 0 = σ16
    replace k := k.2 σ16 hz.symm
    refine gc_obj (k := 7) (C := RX8) (T := TX8) (N := 5) rfl (by decide) rfl in_X8 tyX8_ok nd_X8 h rfl q188 q430 q80 dX0_read_19 k.1 k.2.1 (fun q19 hq hA => ?_)
    generalize hz : gc_new σ16 q19 7 0 = σ19
    replace k := k.2.2 q19 hq hA σ19 hz.symm
    refine gx_dup h rfl dX0_read_22 ?_
    refine gx_aload_nq (r := some a0) h 1 rfl dX0_read_23 ?_
    refine gcg_X0_59 h rfl rfl k.1 dX0_read_24 ?_
    replace k := k.2
    refine gx_aload_nq (r := some a0) h 1 rfl dX0_read_27 ?_
    refine gcg_X0_50 h rfl rfl k.1 dX0_read_28 ?_
    replace k := k.2
    refine gx_iload_n h 0 rfl dX0_read_31 ?_
    obtain ⟨a32_1, e32_1, k⟩ := k
    obtain ⟨c32, s32, hb32, k⟩ := k
    refine gcc_X0_145 (r := gc_R σ19 6 a0) (a0 := gc_R σ19 4 a0) (a1 := gc_I σ6 5 a0) h rfl ⟨Nat.le_refl _, Nat.le_refl _⟩ hb32 e32_1 k.1 (Nat.le_of_ble_eq_true rfl) dX0_read_32 (gx_C.mono k.2 ?_)
    rintro o σ32 (⟨r32, rfl, k⟩ | ⟨a32, rfl, k⟩)
    · refine Or.inl ⟨r32, rfl, ?_⟩
      obtain ⟨c35, s35, hb35, k⟩ := k
      refine gcc_X0_149 (r := some q19) (a0 := r32) h rfl ⟨Nat.le_refl _, Nat.le_refl _⟩ hb35 rfl (Nat.le_of_ble_eq_true rfl) dX0_read_35 (gx_C.mono k ?_)
      rintro _ σ35 ⟨rfl, k⟩
      refine ⟨rfl, ?_⟩
      refine gx_astore_nq (r := some q19) (L' := [(3, va_rf (some q19)), (2, .int (gc_I σ6 5 a0)), (0, va_rf (some a0)), (1, .int x1)]) h (Nat.le_of_ble_eq_true rfl) rfl dX0_read_38 ?_
      refine gx_iconst (v := 0) h dX0_read_39 (by decide) ?_
      refine gx_istore (L' := [(4, .int 0), (3, va_rf (some q19)), (2, .int (gc_I σ6 5 a0)), (0, va_rf (some a0)), (1, .int x1)]) h (Nat.le_of_ble_eq_true rfl) rfl dX0_read_40 ?_
      exact gx_sub [3, 4, 1, 0] rfl k
    · refine Or.inr ⟨a32, rfl, ?_⟩
      refine gc_catchF h rfl q107 q109 [] ⟨0, 92, 93, 33⟩ [] rfl rfl rfl rfl k.1 ?_
      replace k := k.2
      exact gx_sub [1] rfl k
  · refine Or.inr ⟨a6, rfl, ?_⟩
    refine gc_catchF h rfl q107 q109 [] ⟨0, 92, 93, 33⟩ [] rfl rfl rfl rfl k.1 ?_
    replace k := k.2
    exact gx_sub [0] rfl k
theorem bc_X0_read_42 {θ : gc_T} {K : gx_K} {P : Int32 → gc_S → Prop} {σ : gc_S} {x1 x4 : Int32} {x3 : Option Nat} {a0 n c s bc bs : Nat} (h : gc_K θ K (nX0_read (n + 1) c s)) (k : ∃ a45_1 : Nat, x3 = some a45_1 ∧ gc_is σ a45_1 7 ∧ (((gc_I σ 703 a45_1) ≤ x4 → gc_is σ a0 0 ∧ ∃ a87_2 : Nat, gc_R σ 2 a0 = some a87_2 ∧ gc_is σ a87_2 19 ∧ vp_in x1 (gc_n σ a87_2) ∧ (∀ v, x3 = some v → gc_is σ v 7) ∧ ∀ σ87, σ87 = gc_sQ σ a87_2 x1.toNatClampNeg x3 → gc_is σ87 a45_1 7 ∧ P (gc_I σ87 703 a45_1) σ87) ∧ (¬ (gc_I σ 703 a45_1) ≤ x4 → gc_is σ a45_1 7 ∧ ∃ a57_3 : Nat, gc_R σ 701 a45_1 = some a57_3 ∧ gc_is σ a57_3 18 ∧ vp_in x4 (gc_n σ a57_3) ∧ gc_is σ a0 0 ∧ ∃ a62_4 : Nat, gc_Q σ a57_3 x4.toNatClampNeg = some a62_4 ∧ gc_isN σ a62_4 ∧ ∀ σ62, σ62 = gc_sI σ 800 a62_4 (gc_I σ 3 a0) → gc_is σ62 a0 0 ∧ gc_is σ62 a0 0 ∧ ∀ σ72, σ72 = gc_sI σ62 3 a0 ((gc_I σ62 3 a0) + 1) → gc_G θ K (nX0_read (n + 1) c s) (gc_Pi P) 42 [(0, va_rf (some a0)), (1, .int x1), (3, va_rf x3), (4, .int (x4 + 1))] [] σ72 bc bs))) : gc_G θ K (nX0_read (n + 1) c s) (gc_Pi P) 42 [(0, va_rf (some a0)), (1, .int x1), (3, va_rf x3), (4, .int x4)] [] σ bc bs := by
  refine gx_iload h 3 rfl dX0_read_42 ?_
  refine gx_aload_nq (r := x3) h 2 rfl dX0_read_44 ?_
  obtain ⟨a45_1, e45_1, k⟩ := k
  refine gcg_X0_152 h rfl e45_1 k.1 dX0_read_45 ?_
  replace k := k.2
  refine gx_icmp_ge (tgt := 81) h (by decide) dX0_read_48 (fun c => ?_) (fun c => ?_)
  · replace k := k.1 c
    refine gx_aload_nq (r := some a0) h 0 rfl dX0_read_81 ?_
    refine gcg_X0_46 h rfl rfl k.1 dX0_read_82 ?_
    replace k := k.2
    refine gx_iload_n h 1 rfl dX0_read_85 ?_
    refine gx_aload_nq (r := x3) h 2 rfl dX0_read_86 ?_
    obtain ⟨a87_2, e87_2, k⟩ := k
    refine gc_aast19E (r := gc_R σ 2 a0) (w := x3) h e87_2 k.1 k.2.1 k.2.2.1 dX0_read_87 ?_
    generalize hz : gc_sQ σ a87_2 x1.toNatClampNeg x3 = σ87
    replace k := k.2.2.2 σ87 hz.symm
    refine gx_aload_nq (r := x3) h 2 rfl dX0_read_88 ?_
    refine gcg_X0_152 h rfl e45_1 k.1 dX0_read_89 ?_
    replace k := k.2
    exact gx_iret h rfl dX0_read_92 (⟨_, rfl, k⟩)
  · replace k := k.2 c
    refine gx_aload_nq (r := x3) h 2 rfl dX0_read_51 ?_
    refine gcg_X0_155 h rfl e45_1 k.1 dX0_read_52 ?_
    replace k := k.2
    refine gx_iload h 3 rfl dX0_read_55 ?_
    obtain ⟨a57_3, e57_3, k⟩ := k
    refine gc_aald18E (r := gc_R σ 701 a45_1) h e57_3 k.1 k.2.1 dX0_read_57 ?_
    replace k := k.2.2
    refine gx_aload_nq (r := some a0) h 0 rfl dX0_read_58 ?_
    refine gcg_X0_159 h rfl rfl k.1 dX0_read_59 ?_
    replace k := k.2
    obtain ⟨a62_4, e62_4, k⟩ := k
    refine gcp_X0_118 (v := gc_I σ 3 a0) h rfl e62_4 k.1 dX0_read_62 ?_
    generalize hz : gc_sI σ 800 a62_4 (gc_I σ 3 a0) = σ62
    replace k := k.2 σ62 hz.symm
    refine gx_aload_nq (r := some a0) h 0 rfl dX0_read_65 ?_
    refine gx_dup h rfl dX0_read_66 ?_
    refine gcg_X0_159 h rfl rfl k.1 dX0_read_67 ?_
    replace k := k.2
    refine gx_iconst (v := 1) h dX0_read_70 (by decide) ?_
    refine gx_iadd h dX0_read_71 ?_
    refine gcp_X0_159 (v := (gc_I σ62 3 a0) + 1) h rfl rfl k.1 dX0_read_72 ?_
    generalize hz : gc_sI σ62 3 a0 ((gc_I σ62 3 a0) + 1) = σ72
    replace k := k.2 σ72 hz.symm
    refine gx_iinc (v := x4 + 1) (L' := [(4, .int (x4 + 1)), (0, va_rf (some a0)), (1, .int x1), (3, va_rf x3)]) h 3 rfl rfl (Nat.le_of_ble_eq_true rfl) (by generalize x3 = z; cases z <;> rfl) dX0_read_75 ?_
    refine gx_goto (tgt := 42) h (by decide) dX0_read_78 ?_
    exact gx_sub [1, 2, 3, 0] rfl k
theorem bc_X0_read_93 {θ : gc_T} {K : gx_K} {P : Int32 → gc_S → Prop} {σ : gc_S} {a0 s0 n c s bc bs : Nat} (h : gc_K θ K (nX0_read (n + 1) c s)) (k : gc_is σ a0 0 ∧ gx_C (gc_O θ) (nX0_finds n) (.ref a0 :: [va_rf (some s0)]) σ (gc_Pi (fun r96 σ96 => P r96 σ96))) : gc_G θ K (nX0_read (n + 1) c s) (gc_Pi P) 93 [(0, va_rf (some a0))] [va_rf (some s0)] σ bc bs := by
  refine gx_astore_nq (r := some s0) (L' := [(2, va_rf (some s0)), (0, va_rf (some a0))]) h (Nat.le_of_ble_eq_true rfl) rfl dX0_read_93 ?_
  refine gx_aload_nq (r := some a0) h 1 rfl dX0_read_94 ?_
  refine gx_aload_nq (r := some s0) h 0 rfl dX0_read_95 ?_
  refine gcc_X0_138 (r := some a0) (a0 := some s0) h rfl ⟨Nat.le_refl _, Nat.le_refl _⟩ rfl k.1 (Nat.le_of_ble_eq_true rfl) dX0_read_96 (gx_C.mono k.2 ?_)
  rintro _ σ96 ⟨r96, rfl, k⟩
  refine ⟨r96, rfl, ?_⟩
  exact gx_iret h rfl dX0_read_99 (⟨_, rfl, k⟩)
/-! X0.isPlace -/
theorem ec_X0_isPlace {θ : gc_T} {P : Int32 → gc_S → Prop} {σ : gc_S} {n : Nat} {x0 : Int32} (body : ∀ K, gc_K θ K (nX0_isPlace n) → gc_G θ K (nX0_isPlace n) (gc_Pi P) 0 [(0, .int x0)] [] σ 0 0) : gx_C (gc_O θ) (nX0_isPlace n) [.int x0] σ (gc_Pi P) :=
  gx_C.intro (gc_z_warm θ) rfl (Nat.le_of_ble_eq_true rfl) body
theorem bc_X0_isPlace_0 {θ : gc_T} {K : gx_K} {P : Int32 → gc_S → Prop} {σ : gc_S} {x0 : Int32} {n bc bs : Nat} (h : gc_K θ K (nX0_isPlace n)) (k : ((x0 < 0 → gc_G θ K (nX0_isPlace n) (gc_Pi P) 14 [] [] σ bc bs) ∧ (¬ x0 < 0 → ((8 ≤ x0 → gc_G θ K (nX0_isPlace n) (gc_Pi P) 14 [] [] σ bc bs) ∧ (¬ 8 ≤ x0 → P 1 σ))))) : gc_G θ K (nX0_isPlace n) (gc_Pi P) 0 [(0, .int x0)] [] σ bc bs := by
  refine gx_iload_n h 0 rfl dX0_isPlace_0 ?_
  refine gx_if_lt (tgt := 14) h (by decide) dX0_isPlace_1 (fun c => ?_) (fun c => ?_)
  · replace k := k.1 c
    exact gx_sub [] rfl k
  · replace k := k.2 c
    refine gx_iload_n h 0 rfl dX0_isPlace_4 ?_
    refine gx_bipush (v := 8) h dX0_isPlace_5 (by decide) ?_
    refine gx_icmp_ge (tgt := 14) h (by decide) dX0_isPlace_7 (fun c => ?_) (fun c => ?_)
    · replace k := k.1 c
      exact gx_sub [] rfl k
    · replace k := k.2 c
      refine gx_iconst (v := 1) h dX0_isPlace_10 (by decide) ?_
      refine gx_goto (tgt := 15) h (by decide) dX0_isPlace_11 ?_
      exact gx_zret h rfl rfl dX0_isPlace_15 (⟨_, rfl, k⟩)
theorem bc_X0_isPlace_14 {θ : gc_T} {K : gx_K} {P : Int32 → gc_S → Prop} {σ : gc_S} {n bc bs : Nat} (h : gc_K θ K (nX0_isPlace n)) (k : P 0 σ) : gc_G θ K (nX0_isPlace n) (gc_Pi P) 14 [] [] σ bc bs := by
  refine gx_iconst (v := 0) h dX0_isPlace_14 (by decide) ?_
  exact gx_zret h rfl rfl dX0_isPlace_15 (⟨_, rfl, k⟩)
/-! X0.isLetter -/
theorem ec_X0_isLetter {θ : gc_T} {P : Int32 → gc_S → Prop} {σ : gc_S} {n : Nat} {x0 : Int32} (body : ∀ K, gc_K θ K (nX0_isLetter n) → gc_G θ K (nX0_isLetter n) (gc_Pi P) 0 [(0, .int x0)] [] σ 0 0) : gx_C (gc_O θ) (nX0_isLetter n) [.int x0] σ (gc_Pi P) :=
  gx_C.intro (gc_z_warm θ) rfl (Nat.le_of_ble_eq_true rfl) body
theorem bc_X0_isLetter_0 {θ : gc_T} {K : gx_K} {P : Int32 → gc_S → Prop} {σ : gc_S} {x0 : Int32} {n bc bs : Nat} (h : gc_K θ K (nX0_isLetter n)) (k : ((x0 < 97 → gc_G θ K (nX0_isLetter n) (gc_Pi P) 16 [] [] σ bc bs) ∧ (¬ x0 < 97 → ((122 < x0 → gc_G θ K (nX0_isLetter n) (gc_Pi P) 16 [] [] σ bc bs) ∧ (¬ 122 < x0 → P 1 σ))))) : gc_G θ K (nX0_isLetter n) (gc_Pi P) 0 [(0, .int x0)] [] σ bc bs := by
  refine gx_iload_n h 0 rfl dX0_isLetter_0 ?_
  refine gx_bipush (v := 97) h dX0_isLetter_1 (by decide) ?_
  refine gx_icmp_lt (tgt := 16) h (by decide) dX0_isLetter_3 (fun c => ?_) (fun c => ?_)
  · replace k := k.1 c
    exact gx_sub [] rfl k
  · replace k := k.2 c
    refine gx_iload_n h 0 rfl dX0_isLetter_6 ?_
    refine gx_bipush (v := 122) h dX0_isLetter_7 (by decide) ?_
    refine gx_icmp_gt (tgt := 16) h (by decide) dX0_isLetter_9 (fun c => ?_) (fun c => ?_)
    · replace k := k.1 c
      exact gx_sub [] rfl k
    · replace k := k.2 c
      refine gx_iconst (v := 1) h dX0_isLetter_12 (by decide) ?_
      refine gx_goto (tgt := 17) h (by decide) dX0_isLetter_13 ?_
      exact gx_zret h rfl rfl dX0_isLetter_17 (⟨_, rfl, k⟩)
theorem bc_X0_isLetter_16 {θ : gc_T} {K : gx_K} {P : Int32 → gc_S → Prop} {σ : gc_S} {n bc bs : Nat} (h : gc_K θ K (nX0_isLetter n)) (k : P 0 σ) : gc_G θ K (nX0_isLetter n) (gc_Pi P) 16 [] [] σ bc bs := by
  refine gx_iconst (v := 0) h dX0_isLetter_16 (by decide) ?_
  exact gx_zret h rfl rfl dX0_isLetter_17 (⟨_, rfl, k⟩)
/-! X0.part -/
theorem ec_X0_part {θ : gc_T} {P : Option Nat → gc_S → Prop} {σ : gc_S} {n c s : Nat} {x0 : Option Nat} {x1 : Int32} {x2 : Int32} (body : ∀ K, gc_K θ K (nX0_part (n + 1) c s) → gc_G θ K (nX0_part (n + 1) c s) (gc_Pr P) 0 [(0, va_rf x0), (1, .int x1), (2, .int x2)] [] σ c s) : gx_C (gc_O θ) (nX0_part (n + 1) c s) [va_rf x0, .int x1, .int x2] σ (gc_Pr P) := by
  refine gx_C.intro (gc_z_warm θ) rfl (by cases x0 <;> exact Nat.le_of_ble_eq_true rfl) (fun K h => ?_)
  have k := body K h
  cases x0 <;> exact k
theorem bc_X0_part_0 {θ : gc_T} {K : gx_K} {P : Option Nat → gc_S → Prop} {σ : gc_S} {x1 x2 : Int32} {x0 : Option Nat} {n c s bc bs : Nat} (h : gc_K θ K (nX0_part (n + 1) c s)) (k : ¬ (x2 - x1) < 0 ∧ (x2 - x1).toNatClampNeg ≤ 100000 ∧ 1 ≤ bc ∧ (x2 - x1).toNatClampNeg ≤ bs ∧ ∀ q3, q3 ∉ gc_d σ → gc_A θ q3 → ∀ σ3, σ3 = gc_new σ q3 15 (x2 - x1).toNatClampNeg → ∃ a13_1 : Nat, x0 = some a13_1 ∧ (gc_is σ3 a13_1 15 ∧ gc_is σ3 q3 15 ∧ ¬ x1 < 0 ∧ ¬ (0 : Int32) < 0 ∧ ¬ (x2 - x1) < 0 ∧ x1.toNatClampNeg + (x2 - x1).toNatClampNeg ≤ gc_n σ3 a13_1 ∧ (0 : Int32).toNatClampNeg + (x2 - x1).toNatClampNeg ≤ gc_n σ3 q3) ∧ (∀ j, j < (x2 - x1).toNatClampNeg → fits .byte (.int (gc_E σ3 a13_1 (x1.toNatClampNeg + j))) = true) ∧ ∀ σ13, σ13 = gc_cE σ3 a13_1 q3 x1.toNatClampNeg (0 : Int32).toNatClampNeg (x2 - x1).toNatClampNeg → P (some q3) σ13) : gc_G θ K (nX0_part (n + 1) c s) (gc_Pr P) 0 [(0, va_rf x0), (1, .int x1), (2, .int x2)] [] σ bc bs := by
  refine gx_iload_n h 2 rfl dX0_part_0 ?_
  refine gx_iload_n h 1 rfl dX0_part_1 ?_
  refine gx_isub h dX0_part_2 ?_
  refine gc_newa (atype := .byte) (k := 15) (t := 1) (ty := .byte) (by decide) (by decide) rfl rfl rfl (by decide) q213 h k.1 k.2.1 dX0_part_3 k.2.2.1 k.2.2.2.1 (fun q3 hq hA => ?_)
  generalize hz : gc_new σ q3 15 (x2 - x1).toNatClampNeg = σ3
  replace k := k.2.2.2.2 q3 hq hA σ3 hz.symm
  refine gx_astore_nq (r := some q3) (L' := [(3, va_rf (some q3)), (0, va_rf x0), (1, .int x1), (2, .int x2)]) h (Nat.le_of_ble_eq_true rfl) rfl dX0_part_5 ?_
  refine gx_aload_nq (r := x0) h 1 rfl dX0_part_6 ?_
  refine gx_iload_n h 2 rfl dX0_part_7 ?_
  refine gx_aload_nq (r := some q3) h 0 rfl dX0_part_8 ?_
  refine gx_iconst (v := 0) h dX0_part_9 (by decide) ?_
  refine gx_iload_n h 3 rfl dX0_part_10 ?_
  refine gx_iload_n h 2 rfl dX0_part_11 ?_
  refine gx_isub h dX0_part_12 ?_
  obtain ⟨a13_1, e13_1, k⟩ := k
  refine gcc_X0_22 (N := n) (r0 := x0) (r := some q3) (sp := x1) (dp := 0) (n := x2 - x1) h rfl ⟨Nat.le_refl _, Nat.le_refl _⟩ e13_1 rfl k.1 k.2.1 (Nat.le_of_ble_eq_true rfl) dX0_part_13 ?_
  generalize hz : gc_cE σ3 a13_1 q3 x1.toNatClampNeg (0 : Int32).toNatClampNeg (x2 - x1).toNatClampNeg = σ13
  replace k := k.2.2 σ13 hz.symm
  refine gx_aload_nq (r := some q3) h 0 rfl dX0_part_16 ?_
  exact gx_aret (r := some q3) h rfl (Or.inr ⟨_, rfl⟩) dX0_part_17 (⟨_, rfl, k⟩)
/-! X0.isSame -/
theorem ec_X0_isSame {θ : gc_T} {P : Int32 → gc_S → Prop} {σ : gc_S} {n : Nat} {x0 : Option Nat} {x1 : Option Nat} (body : ∀ K, gc_K θ K (nX0_isSame n) → gc_G θ K (nX0_isSame n) (gc_Pi P) 0 [(0, va_rf x0), (1, va_rf x1)] [] σ 0 0) : gx_C (gc_O θ) (nX0_isSame n) [va_rf x0, va_rf x1] σ (gc_Pi P) := by
  refine gx_C.intro (gc_z_warm θ) rfl (by cases x0 <;>  cases x1 <;> exact Nat.le_of_ble_eq_true rfl) (fun K h => ?_)
  have k := body K h
  cases x0 <;>  cases x1 <;> exact k
theorem bc_X0_isSame_0 {θ : gc_T} {K : gx_K} {P : Int32 → gc_S → Prop} {σ : gc_S} {x0 x1 : Option Nat} {n bc bs : Nat} (h : gc_K θ K (nX0_isSame n)) (k : ∃ a1_1 : Nat, x0 = some a1_1 ∧ gc_isB θ σ a1_1 ∧ ∃ a3_2 : Nat, x1 = some a3_2 ∧ gc_isB θ σ a3_2 ∧ (((Int32.ofNat (gc_n σ a1_1)) = (Int32.ofNat (gc_n σ a3_2)) → gc_G θ K (nX0_isSame n) (gc_Pi P) 12 [(0, va_rf x0), (1, va_rf x1)] [.int 1] σ bc bs) ∧ (¬ (Int32.ofNat (gc_n σ a1_1)) = (Int32.ofNat (gc_n σ a3_2)) → gc_G θ K (nX0_isSame n) (gc_Pi P) 12 [(0, va_rf x0), (1, va_rf x1)] [.int 0] σ bc bs))) : gc_G θ K (nX0_isSame n) (gc_Pi P) 0 [(0, va_rf x0), (1, va_rf x1)] [] σ bc bs := by
  refine gx_aload_nq (r := x0) h 0 rfl dX0_isSame_0 ?_
  obtain ⟨a1_1, e1_1, k⟩ := k
  refine gc_alen15E (r := x0) h e1_1 k.1 dX0_isSame_1 ?_
  replace k := k.2
  refine gx_aload_nq (r := x1) h 1 rfl dX0_isSame_2 ?_
  obtain ⟨a3_2, e3_2, k⟩ := k
  refine gc_alen15E (r := x1) h e3_2 k.1 dX0_isSame_3 ?_
  replace k := k.2
  refine gx_icmp_ne (tgt := 11) h (by decide) dX0_isSame_4 (fun c => ?_) (fun c => ?_)
  · replace k := k.2 c
    refine gx_iconst (v := 0) h dX0_isSame_11 (by decide) ?_
    exact k
  · replace k := k.1 c
    refine gx_iconst (v := 1) h dX0_isSame_7 (by decide) ?_
    refine gx_goto (tgt := 12) h (by decide) dX0_isSame_8 ?_
    exact k
theorem bc_X0_isSame_12 {θ : gc_T} {K : gx_K} {P : Int32 → gc_S → Prop} {σ : gc_S} {s0 : Int32} {x0 x1 : Option Nat} {n bc bs : Nat} (h : gc_K θ K (nX0_isSame n)) (k : gc_G θ K (nX0_isSame n) (gc_Pi P) 15 [(0, va_rf x0), (1, va_rf x1), (2, .int s0), (3, .int 0)] [] σ bc bs) : gc_G θ K (nX0_isSame n) (gc_Pi P) 12 [(0, va_rf x0), (1, va_rf x1)] [.int s0] σ bc bs := by
  refine gx_istore_n (L' := [(2, .int s0), (0, va_rf x0), (1, va_rf x1)]) h (Nat.le_of_ble_eq_true rfl) (by generalize x1 = z; cases z <;> rfl) dX0_isSame_12 ?_
  refine gx_iconst (v := 0) h dX0_isSame_13 (by decide) ?_
  refine gx_istore_n (L' := [(3, .int 0), (2, .int s0), (0, va_rf x0), (1, va_rf x1)]) h (Nat.le_of_ble_eq_true rfl) rfl dX0_isSame_14 ?_
  exact gx_sub [2, 3, 1, 0] rfl k
theorem bc_X0_isSame_15 {θ : gc_T} {K : gx_K} {P : Int32 → gc_S → Prop} {σ : gc_S} {x2 x3 : Int32} {x0 x1 : Option Nat} {n bc bs : Nat} (h : gc_K θ K (nX0_isSame n)) (k : ∃ a17_1 : Nat, x0 = some a17_1 ∧ gc_isB θ σ a17_1 ∧ (((Int32.ofNat (gc_n σ a17_1)) ≤ x3 → gc_G θ K (nX0_isSame n) (gc_Pi P) 46 [(2, .int x2)] [] σ bc bs) ∧ (¬ (Int32.ofNat (gc_n σ a17_1)) ≤ x3 → ((x2 = 0 → gc_G θ K (nX0_isSame n) (gc_Pi P) 46 [(2, .int x2)] [] σ bc bs) ∧ (¬ x2 = 0 → gc_is σ a17_1 15 ∧ vp_in x3 (gc_n σ a17_1) ∧ ∃ a30_2 : Nat, x1 = some a30_2 ∧ gc_is σ a30_2 15 ∧ vp_in x3 (gc_n σ a30_2) ∧ (((gc_E σ a17_1 x3.toNatClampNeg) = (gc_E σ a30_2 x3.toNatClampNeg) → gc_G θ K (nX0_isSame n) (gc_Pi P) 15 [(0, va_rf x0), (1, va_rf x1), (2, .int 1), (3, .int (x3 + 1))] [] σ bc bs) ∧ (¬ (gc_E σ a17_1 x3.toNatClampNeg) = (gc_E σ a30_2 x3.toNatClampNeg) → gc_G θ K (nX0_isSame n) (gc_Pi P) 15 [(0, va_rf x0), (1, va_rf x1), (2, .int 0), (3, .int (x3 + 1))] [] σ bc bs))))))) : gc_G θ K (nX0_isSame n) (gc_Pi P) 15 [(0, va_rf x0), (1, va_rf x1), (2, .int x2), (3, .int x3)] [] σ bc bs := by
  refine gx_iload_n h 3 rfl dX0_isSame_15 ?_
  refine gx_aload_nq (r := x0) h 0 rfl dX0_isSame_16 ?_
  obtain ⟨a17_1, e17_1, k⟩ := k
  refine gc_alen15E (r := x0) h e17_1 k.1 dX0_isSame_17 ?_
  replace k := k.2
  refine gx_icmp_ge (tgt := 46) h (by decide) dX0_isSame_18 (fun c => ?_) (fun c => ?_)
  · replace k := k.1 c
    exact gx_sub [2] rfl k
  · replace k := k.2 c
    refine gx_iload_n h 2 rfl dX0_isSame_21 ?_
    refine gx_if_eq (tgt := 46) h (by decide) dX0_isSame_22 (fun c => ?_) (fun c => ?_)
    · replace k := k.1 c
      exact gx_sub [2] rfl k
    · replace k := k.2 c
      refine gx_aload_nq (r := x0) h 0 rfl dX0_isSame_25 ?_
      refine gx_iload_n h 3 rfl dX0_isSame_26 ?_
      refine gc_baldE (r := x0) h e17_1 k.1 k.2.1 dX0_isSame_27 ?_
      replace k := k.2.2
      refine gx_aload_nq (r := x1) h 1 rfl dX0_isSame_28 ?_
      refine gx_iload_n h 3 rfl dX0_isSame_29 ?_
      obtain ⟨a30_2, e30_2, k⟩ := k
      refine gc_baldE (r := x1) h e30_2 k.1 k.2.1 dX0_isSame_30 ?_
      replace k := k.2.2
      refine gx_icmp_ne (tgt := 38) h (by decide) dX0_isSame_31 (fun c => ?_) (fun c => ?_)
      · replace k := k.2 c
        refine gx_iconst (v := 0) h dX0_isSame_38 (by decide) ?_
        refine gx_istore_n (L' := [(2, .int 0), (0, va_rf x0), (1, va_rf x1), (3, .int x3)]) h (Nat.le_of_ble_eq_true rfl) (by generalize x1 = z; cases z <;> rfl) dX0_isSame_39 ?_
        refine gx_iinc (v := x3 + 1) (L' := [(3, .int (x3 + 1)), (2, .int 0), (0, va_rf x0), (1, va_rf x1)]) h 3 rfl rfl (Nat.le_of_ble_eq_true rfl) rfl dX0_isSame_40 ?_
        refine gx_goto (tgt := 15) h (by decide) dX0_isSame_43 ?_
        exact gx_sub [2, 3, 1, 0] rfl k
      · replace k := k.1 c
        refine gx_iconst (v := 1) h dX0_isSame_34 (by decide) ?_
        refine gx_goto (tgt := 39) h (by decide) dX0_isSame_35 ?_
        refine gx_istore_n (L' := [(2, .int 1), (0, va_rf x0), (1, va_rf x1), (3, .int x3)]) h (Nat.le_of_ble_eq_true rfl) (by generalize x1 = z; cases z <;> rfl) dX0_isSame_39 ?_
        refine gx_iinc (v := x3 + 1) (L' := [(3, .int (x3 + 1)), (2, .int 1), (0, va_rf x0), (1, va_rf x1)]) h 3 rfl rfl (Nat.le_of_ble_eq_true rfl) rfl dX0_isSame_40 ?_
        refine gx_goto (tgt := 15) h (by decide) dX0_isSame_43 ?_
        exact gx_sub [2, 3, 1, 0] rfl k
theorem bc_X0_isSame_46 {θ : gc_T} {K : gx_K} {P : Int32 → gc_S → Prop} {σ : gc_S} {x2 : Int32} {n bc bs : Nat} (h : gc_K θ K (nX0_isSame n)) (k : narrow .boolean (.int x2) = .int x2 ∧ P x2 σ) : gc_G θ K (nX0_isSame n) (gc_Pi P) 46 [(2, .int x2)] [] σ bc bs := by
  refine gx_iload_n h 0 rfl dX0_isSame_46 ?_
  exact gx_zret h rfl k.1 dX0_isSame_47 (⟨_, rfl, k.2⟩)
/-! X0.isSign -/
theorem ec_X0_isSign {θ : gc_T} {P : Int32 → gc_S → Prop} {σ : gc_S} {n : Nat} {x0 : Int32} (body : ∀ K, gc_K θ K (nX0_isSign (n + 1)) → gc_G θ K (nX0_isSign (n + 1)) (gc_Pi P) 0 [(0, .int x0)] [] σ 0 0) : gx_C (gc_O θ) (nX0_isSign (n + 1)) [.int x0] σ (gc_Pi P) :=
  gx_C.intro (gc_z_warm θ) rfl (Nat.le_of_ble_eq_true rfl) body
theorem bc_X0_isSign_0 {θ : gc_T} {K : gx_K} {P : Int32 → gc_S → Prop} {σ : gc_S} {x0 : Int32} {n bc bs : Nat} (h : gc_K θ K (nX0_isSign (n + 1))) (k : gx_C (gc_O θ) (nX0_isLetter n) [.int x0] σ (gc_Pi (fun r1 σ1 => ((r1 = 0 → ((x0 < 48 → gc_G θ K (nX0_isSign (n + 1)) (gc_Pi P) 23 [] [] σ1 bc bs) ∧ (¬ x0 < 48 → ((57 < x0 → gc_G θ K (nX0_isSign (n + 1)) (gc_Pi P) 23 [] [] σ1 bc bs) ∧ (¬ 57 < x0 → gc_G θ K (nX0_isSign (n + 1)) (gc_Pi P) 19 [] [] σ1 bc bs))))) ∧ (¬ r1 = 0 → gc_G θ K (nX0_isSign (n + 1)) (gc_Pi P) 19 [] [] σ1 bc bs))))) : gc_G θ K (nX0_isSign (n + 1)) (gc_Pi P) 0 [(0, .int x0)] [] σ bc bs := by
  refine gx_iload_n h 0 rfl dX0_isSign_0 ?_
  refine gcc_X0_16 (a0 := x0) h rfl ⟨Nat.le_refl _, Nat.le_refl _⟩ (Nat.le_of_ble_eq_true rfl) dX0_isSign_1 (gx_C.mono k ?_)
  rintro _ σ1 ⟨r1, rfl, k⟩
  refine ⟨r1, rfl, ?_⟩
  refine gx_if_ne (tgt := 19) h (by decide) dX0_isSign_4 (fun c => ?_) (fun c => ?_)
  · replace k := k.2 c
    exact gx_sub [] rfl k
  · replace k := k.1 c
    refine gx_iload_n h 0 rfl dX0_isSign_7 ?_
    refine gx_bipush (v := 48) h dX0_isSign_8 (by decide) ?_
    refine gx_icmp_lt (tgt := 23) h (by decide) dX0_isSign_10 (fun c => ?_) (fun c => ?_)
    · replace k := k.1 c
      exact gx_sub [] rfl k
    · replace k := k.2 c
      refine gx_iload_n h 0 rfl dX0_isSign_13 ?_
      refine gx_bipush (v := 57) h dX0_isSign_14 (by decide) ?_
      refine gx_icmp_gt (tgt := 23) h (by decide) dX0_isSign_16 (fun c => ?_) (fun c => ?_)
      · replace k := k.1 c
        exact gx_sub [] rfl k
      · replace k := k.2 c
        exact gx_sub [] rfl k
theorem bc_X0_isSign_19 {θ : gc_T} {K : gx_K} {P : Int32 → gc_S → Prop} {σ : gc_S} {n bc bs : Nat} (h : gc_K θ K (nX0_isSign (n + 1))) (k : P 1 σ) : gc_G θ K (nX0_isSign (n + 1)) (gc_Pi P) 19 [] [] σ bc bs := by
  refine gx_iconst (v := 1) h dX0_isSign_19 (by decide) ?_
  refine gx_goto (tgt := 24) h (by decide) dX0_isSign_20 ?_
  exact gx_zret h rfl rfl dX0_isSign_24 (⟨_, rfl, k⟩)
theorem bc_X0_isSign_23 {θ : gc_T} {K : gx_K} {P : Int32 → gc_S → Prop} {σ : gc_S} {n bc bs : Nat} (h : gc_K θ K (nX0_isSign (n + 1))) (k : P 0 σ) : gc_G θ K (nX0_isSign (n + 1)) (gc_Pi P) 23 [] [] σ bc bs := by
  refine gx_iconst (v := 0) h dX0_isSign_23 (by decide) ?_
  exact gx_zret h rfl rfl dX0_isSign_24 (⟨_, rfl, k⟩)
/-! X0.made -/
theorem ec_X0_made {θ : gc_T} {P : Option Nat → gc_S → Prop} {σ : gc_S} {n c s : Nat} {x0 : Int32} {x1 : Int32} {x2 : Option Nat} {x3 : Option Nat} (body : ∀ K, gc_K θ K (nX0_made (n + 1) c s) → gc_G θ K (nX0_made (n + 1) c s) (gc_Pr P) 0 [(0, .int x0), (1, .int x1), (2, va_rf x2), (3, va_rf x3)] [] σ c s) : gx_C (gc_O θ) (nX0_made (n + 1) c s) [.int x0, .int x1, va_rf x2, va_rf x3] σ (gc_Pr P) := by
  refine gx_C.intro (gc_z_warm θ) rfl (by cases x2 <;>  cases x3 <;> exact Nat.le_of_ble_eq_true rfl) (fun K h => ?_)
  have k := body K h
  cases x2 <;>  cases x3 <;> exact k
theorem bc_X0_made_0 {θ : gc_T} {K : gx_K} {P : Option Nat → gc_S → Prop} {σ : gc_S} {x0 x1 : Int32} {x2 x3 : Option Nat} {n c s bc bs : Nat} (h : gc_K θ K (nX0_made (n + 1) c s)) (k : ((x0 = 0 → 1 ≤ bc ∧ 10 ≤ bs ∧ ∀ q28, q28 ∉ gc_d σ → gc_A θ q28 → ∀ σ28, σ28 = gc_new σ q28 8 0 → ∃ c35 s35 : Nat, (c35 ≤ (bc - 1) ∧ s35 ≤ (bs - 10)) ∧ gx_C (gc_O θ) (nX10_init n c35 s35) (.ref q28 :: [.int x1, va_rf x2, va_rf x3]) σ28 (gc_Pv (fun σ35 => P (some q28) σ35))) ∧ (x0 = 1 → 1 ≤ bc ∧ 10 ≤ bs ∧ ∀ q39, q39 ∉ gc_d σ → gc_A θ q39 → ∀ σ39, σ39 = gc_new σ q39 9 0 → ∃ c46 s46 : Nat, (c46 ≤ (bc - 1) ∧ s46 ≤ (bs - 10)) ∧ gx_C (gc_O θ) (nX11_init n c46 s46) (.ref q39 :: [.int x1, va_rf x2, va_rf x3]) σ39 (gc_Pv (fun σ46 => P (some q39) σ46))) ∧ (x0 = 2 → 1 ≤ bc ∧ 10 ≤ bs ∧ ∀ q50, q50 ∉ gc_d σ → gc_A θ q50 → ∀ σ50, σ50 = gc_new σ q50 10 0 → ∃ c57 s57 : Nat, (c57 ≤ (bc - 1) ∧ s57 ≤ (bs - 10)) ∧ gx_C (gc_O θ) (nX12_init n c57 s57) (.ref q50 :: [.int x1, va_rf x2, va_rf x3]) σ50 (gc_Pv (fun σ57 => P (some q50) σ57))) ∧ (¬ x0 = 0 → ¬ x0 = 1 → ¬ x0 = 2 → 1 ≤ bc ∧ 10 ≤ bs ∧ ∀ q61, q61 ∉ gc_d σ → gc_A θ q61 → ∀ σ61, σ61 = gc_new σ q61 11 0 → ∃ c68 s68 : Nat, (c68 ≤ (bc - 1) ∧ s68 ≤ (bs - 10)) ∧ gx_C (gc_O θ) (nX13_init n c68 s68) (.ref q61 :: [.int x1, va_rf x2, va_rf x3]) σ61 (gc_Pv (fun σ68 => P (some q61) σ68))))) : gc_G θ K (nX0_made (n + 1) c s) (gc_Pr P) 0 [(0, .int x0), (1, .int x1), (2, va_rf x2), (3, va_rf x3)] [] σ bc bs := by
  refine gx_iload_n h 0 rfl dX0_made_0 ?_
  refine gx_tsw2 (N := 3) (tgt := 61) (fun j => match j with | 0 => 28 | 1 => 39 | _ => 50) h (by decide) dX0_made_1 (by decide) (by decide) ?_ ?_ (by decide)
  · intro j hj hu
    match j, hj, hu with
    | 0, _, hu =>
      replace k := k.1 hu
      refine gc_obj (k := 8) (C := RX10) (T := TX10) (N := 10) rfl (by decide) rfl in_X10 tyX10_ok nd_X10 h rfl q488 q489 q85 dX0_made_28 k.1 k.2.1 (fun q28 hq hA => ?_)
      generalize hz : gc_new σ q28 8 0 = σ28
      replace k := k.2.2 q28 hq hA σ28 hz.symm
      refine gx_dup h rfl dX0_made_31 ?_
      refine gx_iload_n h 1 rfl dX0_made_32 ?_
      refine gx_aload_nq (r := x2) h 2 rfl dX0_made_33 ?_
      refine gx_aload_nq (r := x3) h 3 rfl dX0_made_34 ?_
      obtain ⟨c35, s35, hb35, k⟩ := k
      refine gcc_X0_3 (r := some q28) (a0 := x1) (a1 := x2) (a2 := x3) h rfl ⟨Nat.le_refl _, Nat.le_refl _⟩ hb35 rfl (Nat.le_of_ble_eq_true rfl) dX0_made_35 (gx_C.mono k ?_)
      rintro _ σ35 ⟨rfl, k⟩
      refine ⟨rfl, ?_⟩
      exact gx_aret (r := some q28) h rfl (Or.inl ⟨_, rfl⟩) dX0_made_38 (⟨_, rfl, k⟩)
    | 1, _, hu =>
      replace k := k.2.1 hu
      refine gc_obj (k := 9) (C := RX11) (T := TX11) (N := 10) rfl (by decide) rfl in_X11 tyX11_ok nd_X11 h rfl q571 q572 q86 dX0_made_39 k.1 k.2.1 (fun q39 hq hA => ?_)
      generalize hz : gc_new σ q39 9 0 = σ39
      replace k := k.2.2 q39 hq hA σ39 hz.symm
      refine gx_dup h rfl dX0_made_42 ?_
      refine gx_iload_n h 1 rfl dX0_made_43 ?_
      refine gx_aload_nq (r := x2) h 2 rfl dX0_made_44 ?_
      refine gx_aload_nq (r := x3) h 3 rfl dX0_made_45 ?_
      obtain ⟨c46, s46, hb46, k⟩ := k
      refine gcc_X0_9 (r := some q39) (a0 := x1) (a1 := x2) (a2 := x3) h rfl ⟨Nat.le_refl _, Nat.le_refl _⟩ hb46 rfl (Nat.le_of_ble_eq_true rfl) dX0_made_46 (gx_C.mono k ?_)
      rintro _ σ46 ⟨rfl, k⟩
      refine ⟨rfl, ?_⟩
      exact gx_aret (r := some q39) h rfl (Or.inl ⟨_, rfl⟩) dX0_made_49 (⟨_, rfl, k⟩)
    | 2, _, hu =>
      replace k := k.2.2.1 hu
      refine gc_obj (k := 10) (C := RX12) (T := TX12) (N := 10) rfl (by decide) rfl in_X12 tyX12_ok nd_X12 h rfl q588 q589 q87 dX0_made_50 k.1 k.2.1 (fun q50 hq hA => ?_)
      generalize hz : gc_new σ q50 10 0 = σ50
      replace k := k.2.2 q50 hq hA σ50 hz.symm
      refine gx_dup h rfl dX0_made_53 ?_
      refine gx_iload_n h 1 rfl dX0_made_54 ?_
      refine gx_aload_nq (r := x2) h 2 rfl dX0_made_55 ?_
      refine gx_aload_nq (r := x3) h 3 rfl dX0_made_56 ?_
      obtain ⟨c57, s57, hb57, k⟩ := k
      refine gcc_X0_12 (r := some q50) (a0 := x1) (a1 := x2) (a2 := x3) h rfl ⟨Nat.le_refl _, Nat.le_refl _⟩ hb57 rfl (Nat.le_of_ble_eq_true rfl) dX0_made_57 (gx_C.mono k ?_)
      rintro _ σ57 ⟨rfl, k⟩
      refine ⟨rfl, ?_⟩
      exact gx_aret (r := some q50) h rfl (Or.inl ⟨_, rfl⟩) dX0_made_60 (⟨_, rfl, k⟩)
    | j + 3, hj, _ => exact absurd hj (by omega)
  · intro hu
    replace k := k.2.2.2 (hu 0 (by decide)) (hu 1 (by decide)) (hu 2 (by decide))
    refine gc_obj (k := 11) (C := RX13) (T := TX13) (N := 10) rfl (by decide) rfl in_X13 tyX13_ok nd_X13 h rfl q605 q606 q88 dX0_made_61 k.1 k.2.1 (fun q61 hq hA => ?_)
    generalize hz : gc_new σ q61 11 0 = σ61
    replace k := k.2.2 q61 hq hA σ61 hz.symm
    refine gx_dup h rfl dX0_made_64 ?_
    refine gx_iload_n h 1 rfl dX0_made_65 ?_
    refine gx_aload_nq (r := x2) h 2 rfl dX0_made_66 ?_
    refine gx_aload_nq (r := x3) h 3 rfl dX0_made_67 ?_
    obtain ⟨c68, s68, hb68, k⟩ := k
    refine gcc_X0_15 (r := some q61) (a0 := x1) (a1 := x2) (a2 := x3) h rfl ⟨Nat.le_refl _, Nat.le_refl _⟩ hb68 rfl (Nat.le_of_ble_eq_true rfl) dX0_made_68 (gx_C.mono k ?_)
    rintro _ σ68 ⟨rfl, k⟩
    refine ⟨rfl, ?_⟩
    exact gx_aret (r := some q61) h rfl (Or.inl ⟨_, rfl⟩) dX0_made_71 (⟨_, rfl, k⟩)
/-! X0.write -/
theorem ec_X0_write {θ : gc_T} {P : Int32 → gc_S → Prop} {σ : gc_S} {n c s : Nat} {a0 : Nat} {x1 : Int32} (body : ∀ K, gc_K θ K (nX0_write (n + 1) c s) → gc_G θ K (nX0_write (n + 1) c s) (gc_Pi P) 0 [(0, va_rf (some a0)), (1, .int x1)] [] σ c s) : gx_C (gc_O θ) (nX0_write (n + 1) c s) [.ref a0, .int x1] σ (gc_Pi P) :=
  gx_C.intro (gc_z_warm θ) rfl (Nat.le_of_ble_eq_true rfl) body
theorem bc_X0_write_0 {θ : gc_T} {K : gx_K} {P : Int32 → gc_S → Prop} {σ : gc_S} {x1 : Int32} {a0 n c s bc bs : Nat} (h : gc_K θ K (nX0_write (n + 1) c s)) (k : ∃ c2 s2 : Nat, (c2 ≤ bc ∧ s2 ≤ bs) ∧ gc_is σ a0 0 ∧ gx_C (gc_O θ) (nX0_tree n c2 s2) (.ref a0 :: [.int x1]) σ (gc_Qr (fun r2 σ2 => gc_is σ2 a0 0 ∧ ∃ a11_1 : Nat, gc_R σ2 7 a0 = some a11_1 ∧ gc_is σ2 a11_1 3 ∧ ∀ σ11, σ11 = gc_sI σ2 301 a11_1 0 → gc_is σ11 a0 0 ∧ ∃ a19_2 : Nat, r2 = some a19_2 ∧ gc_is σ11 a19_2 7 ∧ ∃ a22_3 : Nat, gc_R σ11 7 a0 = some a22_3 ∧ gc_is σ11 a22_3 3 ∧ gx_C (gc_O θ) (nX3_node n) (.ref a22_3 :: [va_rf (gc_R σ11 700 a19_2)]) σ11 (gc_Pv (fun σ22 => gc_is σ22 a0 0 ∧ ∃ a29_4 : Nat, gc_R σ22 7 a0 = some a29_4 ∧ gc_is σ22 a29_4 3 ∧ P (gc_I σ22 301 a29_4) σ22))) (fun a2 σ2 => gc_is σ2 a2 1 ∧ gc_G θ K (nX0_write (n + 1) c s) (gc_Pi P) 33 [(0, va_rf (some a0))] [va_rf (some a2)] σ2 (bc - c2) (bs - s2)))) : gc_G θ K (nX0_write (n + 1) c s) (gc_Pi P) 0 [(0, va_rf (some a0)), (1, .int x1)] [] σ bc bs := by
  refine gx_aload_nq (r := some a0) h 0 rfl dX0_write_0 ?_
  refine gx_iload_n h 1 rfl dX0_write_1 ?_
  obtain ⟨c2, s2, hb2, k⟩ := k
  refine gcc_X0_162 (r := some a0) (a0 := x1) h rfl ⟨Nat.le_refl _, Nat.le_refl _⟩ hb2 rfl k.1 (Nat.le_of_ble_eq_true rfl) dX0_write_2 (gx_C.mono k.2 ?_)
  rintro o σ2 (⟨r2, rfl, k⟩ | ⟨a2, rfl, k⟩)
  · refine Or.inl ⟨r2, rfl, ?_⟩
    refine gx_astore_nq (r := r2) (L' := [(2, va_rf r2), (0, va_rf (some a0)), (1, .int x1)]) h (Nat.le_of_ble_eq_true rfl) rfl dX0_write_5 ?_
    refine gx_aload_nq (r := some a0) h 1 rfl dX0_write_6 ?_
    refine gcg_X0_66 h rfl rfl k.1 dX0_write_7 ?_
    replace k := k.2
    refine gx_iconst (v := 0) h dX0_write_10 (by decide) ?_
    obtain ⟨a11_1, e11_1, k⟩ := k
    refine gcp_X0_166 (v := 0) h rfl e11_1 k.1 dX0_write_11 ?_
    generalize hz : gc_sI σ2 301 a11_1 0 = σ11
    replace k := k.2 σ11 hz.symm
    refine gx_aload_nq (r := some a0) h 1 rfl dX0_write_14 ?_
    refine gcg_X0_66 h rfl rfl k.1 dX0_write_15 ?_
    replace k := k.2
    refine gx_aload_nq (r := r2) h 0 rfl dX0_write_18 ?_
    obtain ⟨a19_2, e19_2, k⟩ := k
    refine gcg_X0_114 h rfl e19_2 k.1 dX0_write_19 ?_
    replace k := k.2
    obtain ⟨a22_3, e22_3, k⟩ := k
    refine gcc_X0_167 (r := gc_R σ11 7 a0) (a0 := gc_R σ11 700 a19_2) h rfl ⟨Nat.le_refl _, Nat.le_refl _⟩ e22_3 k.1 (Nat.le_of_ble_eq_true rfl) dX0_write_22 (gx_C.mono k.2 ?_)
    rintro _ σ22 ⟨rfl, k⟩
    refine ⟨rfl, ?_⟩
    refine gx_aload_nq (r := some a0) h 1 rfl dX0_write_25 ?_
    refine gcg_X0_66 h rfl rfl k.1 dX0_write_26 ?_
    replace k := k.2
    obtain ⟨a29_4, e29_4, k⟩ := k
    refine gcg_X0_166 h rfl e29_4 k.1 dX0_write_29 ?_
    replace k := k.2
    exact gx_iret h rfl dX0_write_32 (⟨_, rfl, k⟩)
  · refine Or.inr ⟨a2, rfl, ?_⟩
    refine gc_catchF h rfl q107 q109 [] ⟨0, 32, 33, 33⟩ [] rfl rfl rfl rfl k.1 ?_
    replace k := k.2
    exact gx_sub [0] rfl k
theorem bc_X0_write_33 {θ : gc_T} {K : gx_K} {P : Int32 → gc_S → Prop} {σ : gc_S} {a0 s0 n c s bc bs : Nat} (h : gc_K θ K (nX0_write (n + 1) c s)) (k : gc_is σ a0 0 ∧ gx_C (gc_O θ) (nX0_finds n) (.ref a0 :: [va_rf (some s0)]) σ (gc_Pi (fun r36 σ36 => P r36 σ36))) : gc_G θ K (nX0_write (n + 1) c s) (gc_Pi P) 33 [(0, va_rf (some a0))] [va_rf (some s0)] σ bc bs := by
  refine gx_astore_nq (r := some s0) (L' := [(2, va_rf (some s0)), (0, va_rf (some a0))]) h (Nat.le_of_ble_eq_true rfl) rfl dX0_write_33 ?_
  refine gx_aload_nq (r := some a0) h 1 rfl dX0_write_34 ?_
  refine gx_aload_nq (r := some s0) h 0 rfl dX0_write_35 ?_
  refine gcc_X0_138 (r := some a0) (a0 := some s0) h rfl ⟨Nat.le_refl _, Nat.le_refl _⟩ rfl k.1 (Nat.le_of_ble_eq_true rfl) dX0_write_36 (gx_C.mono k.2 ?_)
  rintro _ σ36 ⟨r36, rfl, k⟩
  refine ⟨r36, rfl, ?_⟩
  exact gx_iret h rfl dX0_write_39 (⟨_, rfl, k⟩)
/-! X0.tree -/
theorem ec_X0_tree {θ : gc_T} {P : Option Nat → gc_S → Prop} {T : Nat → gc_S → Prop} {σ : gc_S} {n c s : Nat} {a0 : Nat} {x1 : Int32} (body : ∀ K, gc_K θ K (nX0_tree (n + 1) c s) → gc_G θ K (nX0_tree (n + 1) c s) (gc_Qr P T) 0 [(0, va_rf (some a0)), (1, .int x1)] [] σ c s) : gx_C (gc_O θ) (nX0_tree (n + 1) c s) [.ref a0, .int x1] σ (gc_Qr P T) :=
  gx_C.intro (gc_z_warm θ) rfl (Nat.le_of_ble_eq_true rfl) body
theorem bc_X0_tree_0 {θ : gc_T} {K : gx_K} {P : Option Nat → gc_S → Prop} {T : Nat → gc_S → Prop} {σ : gc_S} {x1 : Int32} {a0 n c s bc bs : Nat} (h : gc_K θ K (nX0_tree (n + 1) c s)) (k : gc_is σ a0 0 ∧ ∃ a5_1 : Nat, gc_R σ 2 a0 = some a5_1 ∧ gc_is σ a5_1 19 ∧ ((vp_in x1 (gc_n σ a5_1) → ((gc_Q σ a5_1 x1.toNatClampNeg = none → 260 ≤ n ∧ 1 ≤ bc ∧ 8 ≤ bs ∧ ∀ a32 : Nat, gc_G θ K (nX0_tree (n + 1) c s) (gc_Qr P T) 32 [(0, va_rf (some a0))] [va_rf (some a32)] σ (bc - 1) (bs - 8)) ∧ (∀ a8 : Nat, gc_Q σ a5_1 x1.toNatClampNeg = some a8 → gc_is σ a8 7 ∧ ∃ a12_2 : Nat, gc_R σ 700 a8 = some a12_2 ∧ gc_isN σ a12_2 ∧ gc_isN σ a12_2 ∧ ∀ σ17, σ17 = gc_sI σ 800 a12_2 ((gc_I σ 800 a12_2) + 0) → P (gc_Q σ a5_1 x1.toNatClampNeg) σ17))) ∧ (¬ vp_in x1 (gc_n σ a5_1) → 260 ≤ n ∧ gc_n σ a5_1 < 2 ^ 31 ∧ 3 ≤ bc ∧ 222 ≤ bs ∧ ∀ a22 : Nat, gc_G θ K (nX0_tree (n + 1) c s) (gc_Qr P T) 22 [(0, va_rf (some a0))] [va_rf (some a22)] σ (bc - 3) (bs - 222)))) : gc_G θ K (nX0_tree (n + 1) c s) (gc_Qr P T) 0 [(0, va_rf (some a0)), (1, .int x1)] [] σ bc bs := by
  refine gx_aload_nq (r := some a0) h 0 rfl dX0_tree_0 ?_
  refine gcg_X0_46 h rfl rfl k.1 dX0_tree_1 ?_
  replace k := k.2
  refine gx_iload_n h 1 rfl dX0_tree_4 ?_
  obtain ⟨a5_1, e5_1, k⟩ := k
  obtain ⟨k1, k⟩ := k
  refine (Classical.em (vp_in x1 (gc_n σ a5_1))).elim (fun c => ?_) (fun c => ?_)
  · replace k := k.1 c
    refine gc_aald19E (r := gc_R σ 2 a0) h e5_1 k1 c dX0_tree_5 ?_
    refine gx_astore_nq (r := gc_Q σ a5_1 x1.toNatClampNeg) (L' := [(2, va_rf (gc_Q σ a5_1 x1.toNatClampNeg)), (0, va_rf (some a0)), (1, .int x1)]) h (Nat.le_of_ble_eq_true rfl) rfl dX0_tree_6 ?_
    refine gx_aload_nq (r := gc_Q σ a5_1 x1.toNatClampNeg) h 0 rfl dX0_tree_7 ?_
    rcases gc_opt (gc_Q σ a5_1 x1.toNatClampNeg) with e8 | ⟨a8, e8⟩
    · replace k := k.1 e8
      refine gc_rootNE (r := gc_Q σ a5_1 x1.toNatClampNeg) h e8 rfl rfl (by decide) ⟨by show 8 ≤ n + 1; omega, by show 10300 ≤ 40 * (n + 1); omega⟩ (Nat.le_of_ble_eq_true rfl) dX0_tree_8 k.2.1 k.2.2.1 (fun a32 => ?_)
      replace k := k.2.2.2 a32
      exact gx_sub [1] rfl k
    · replace k := k.2 a8 e8
      refine gcg_X0_114 h rfl e8 k.1 dX0_tree_8 ?_
      replace k := k.2
      refine gx_dup h (gx_cat _) dX0_tree_11 ?_
      obtain ⟨a12_2, e12_2, k⟩ := k
      refine gcg_X0_118 h rfl e12_2 k.1 dX0_tree_12 ?_
      replace k := k.2
      refine gx_iconst (v := 0) h dX0_tree_15 (by decide) ?_
      refine gx_iadd h dX0_tree_16 ?_
      refine gcp_X0_118 (v := (gc_I σ 800 a12_2) + 0) h rfl e12_2 k.1 dX0_tree_17 ?_
      generalize hz : gc_sI σ 800 a12_2 ((gc_I σ 800 a12_2) + 0) = σ17
      replace k := k.2 σ17 hz.symm
      refine gx_aload_nq (r := gc_Q σ a5_1 x1.toNatClampNeg) h 0 rfl dX0_tree_20 ?_
      exact gx_aret (r := gc_Q σ a5_1 x1.toNatClampNeg) h rfl (Or.inl ⟨_, rfl⟩) dX0_tree_21 (Or.inl ⟨_, rfl, k⟩)
  · replace k := k.2 c
    refine gc_treeOE (r := gc_R σ 2 a0) h e5_1 rfl rfl (by decide) ⟨by show 8 ≤ n + 1; omega, by show 10300 ≤ 40 * (n + 1); omega⟩ (Nat.le_of_ble_eq_true rfl) k1 k.2.1 c dX0_tree_5 k.2.2.1 k.2.2.2.1 (fun a22 => ?_)
    replace k := k.2.2.2.2 a22
    exact gx_sub [0] rfl k
theorem bc_X0_tree_22 {θ : gc_T} {K : gx_K} {P : Option Nat → gc_S → Prop} {T : Nat → gc_S → Prop} {σ : gc_S} {a0 s0 n c s bc bs : Nat} (h : gc_K θ K (nX0_tree (n + 1) c s)) (k : gc_is σ a0 0 ∧ ∃ a28_1 : Nat, gc_R σ 0 a0 = some a28_1 ∧ gc_is σ a28_1 1 ∧ gx_C (gc_O θ) (nX1_of n) (.ref a28_1 :: [.int (-1)]) σ (gc_Pr (fun r28 σ28 => ∃ a31_2 : Nat, r28 = some a31_2 ∧ T a31_2 σ28))) : gc_G θ K (nX0_tree (n + 1) c s) (gc_Qr P T) 22 [(0, va_rf (some a0))] [va_rf (some s0)] σ bc bs := by
  refine gx_astore_nq (r := some s0) (L' := [(2, va_rf (some s0)), (0, va_rf (some a0))]) h (Nat.le_of_ble_eq_true rfl) rfl dX0_tree_22 ?_
  refine gx_aload_nq (r := some a0) h 1 rfl dX0_tree_23 ?_
  refine gcg_X0_36 h rfl rfl k.1 dX0_tree_24 ?_
  replace k := k.2
  refine gx_iconst (v := (-1)) h dX0_tree_27 (by decide) ?_
  obtain ⟨a28_1, e28_1, k⟩ := k
  refine gcc_X0_106 (r := gc_R σ 0 a0) (a0 := (-1)) h rfl ⟨Nat.le_refl _, Nat.le_refl _⟩ e28_1 k.1 (Nat.le_of_ble_eq_true rfl) dX0_tree_28 (gx_C.mono k.2 ?_)
  rintro _ σ28 ⟨r28, rfl, k⟩
  refine ⟨r28, rfl, ?_⟩
  obtain ⟨a31_2, e31_2, k⟩ := k
  refine gc_athrow (r := r28) h e31_2 dX0_tree_31 ?_
  exact gx_out h rfl (Or.inr ⟨_, rfl, k⟩)
theorem bc_X0_tree_32 {θ : gc_T} {K : gx_K} {P : Option Nat → gc_S → Prop} {T : Nat → gc_S → Prop} {σ : gc_S} {a0 s0 n c s bc bs : Nat} (h : gc_K θ K (nX0_tree (n + 1) c s)) (k : gc_is σ a0 0 ∧ ∃ a39_1 : Nat, gc_R σ 0 a0 = some a39_1 ∧ gc_is σ a39_1 1 ∧ gx_C (gc_O θ) (nX1_of n) (.ref a39_1 :: [.int (-2)]) σ (gc_Pr (fun r39 σ39 => ∃ a42_2 : Nat, r39 = some a42_2 ∧ T a42_2 σ39))) : gc_G θ K (nX0_tree (n + 1) c s) (gc_Qr P T) 32 [(0, va_rf (some a0))] [va_rf (some s0)] σ bc bs := by
  refine gx_astore_nq (r := some s0) (L' := [(2, va_rf (some s0)), (0, va_rf (some a0))]) h (Nat.le_of_ble_eq_true rfl) rfl dX0_tree_32 ?_
  refine gx_aload_nq (r := some a0) h 1 rfl dX0_tree_33 ?_
  refine gcg_X0_36 h rfl rfl k.1 dX0_tree_34 ?_
  replace k := k.2
  refine gx_bipush (v := (-2)) h dX0_tree_37 (by decide) ?_
  obtain ⟨a39_1, e39_1, k⟩ := k
  refine gcc_X0_106 (r := gc_R σ 0 a0) (a0 := (-2)) h rfl ⟨Nat.le_refl _, Nat.le_refl _⟩ e39_1 k.1 (Nat.le_of_ble_eq_true rfl) dX0_tree_39 (gx_C.mono k.2 ?_)
  rintro _ σ39 ⟨r39, rfl, k⟩
  refine ⟨r39, rfl, ?_⟩
  obtain ⟨a42_2, e42_2, k⟩ := k
  refine gc_athrow (r := r39) h e42_2 dX0_tree_42 ?_
  exact gx_out h rfl (Or.inr ⟨_, rfl, k⟩)
/-! X0.letter -/
theorem ec_X0_letter {θ : gc_T} {P : Int32 → gc_S → Prop} {σ : gc_S} {n : Nat} {a0 : Nat} {x1 : Int32} (body : ∀ K, gc_K θ K (nX0_letter n) → gc_G θ K (nX0_letter n) (gc_Pi P) 0 [(0, va_rf (some a0)), (1, .int x1)] [] σ 0 0) : gx_C (gc_O θ) (nX0_letter n) [.ref a0, .int x1] σ (gc_Pi P) :=
  gx_C.intro (gc_z_warm θ) rfl (Nat.le_of_ble_eq_true rfl) body
theorem bc_X0_letter_0 {θ : gc_T} {K : gx_K} {P : Int32 → gc_S → Prop} {σ : gc_S} {x1 : Int32} {a0 n bc bs : Nat} (h : gc_K θ K (nX0_letter n)) (k : ((x1 < 0 → gc_G θ K (nX0_letter n) (gc_Pi P) 27 [] [] σ bc bs) ∧ (¬ x1 < 0 → gc_is σ a0 0 ∧ ∃ a9_1 : Nat, gc_R σ 7 a0 = some a9_1 ∧ gc_is σ a9_1 3 ∧ (((gc_I σ 301 a9_1) ≤ x1 → gc_G θ K (nX0_letter n) (gc_Pi P) 27 [] [] σ bc bs) ∧ (¬ (gc_I σ 301 a9_1) ≤ x1 → gc_is σ a0 0 ∧ gc_is σ a9_1 3 ∧ ∃ a23_2 : Nat, gc_R σ 300 a9_1 = some a23_2 ∧ gc_is σ a23_2 15 ∧ vp_in x1 (gc_n σ a23_2) ∧ P (gc_E σ a23_2 x1.toNatClampNeg) σ))))) : gc_G θ K (nX0_letter n) (gc_Pi P) 0 [(0, va_rf (some a0)), (1, .int x1)] [] σ bc bs := by
  refine gx_iload_n h 1 rfl dX0_letter_0 ?_
  refine gx_if_lt (tgt := 27) h (by decide) dX0_letter_1 (fun c => ?_) (fun c => ?_)
  · replace k := k.1 c
    exact gx_sub [] rfl k
  · replace k := k.2 c
    refine gx_iload_n h 1 rfl dX0_letter_4 ?_
    refine gx_aload_nq (r := some a0) h 0 rfl dX0_letter_5 ?_
    refine gcg_X0_66 h rfl rfl k.1 dX0_letter_6 ?_
    replace k := k.2
    obtain ⟨a9_1, e9_1, k⟩ := k
    refine gcg_X0_166 h rfl e9_1 k.1 dX0_letter_9 ?_
    replace k := k.2
    refine gx_icmp_ge (tgt := 27) h (by decide) dX0_letter_12 (fun c => ?_) (fun c => ?_)
    · replace k := k.1 c
      exact gx_sub [] rfl k
    · replace k := k.2 c
      refine gx_aload_nq (r := some a0) h 0 rfl dX0_letter_15 ?_
      refine gcg_X0_66 h rfl rfl k.1 dX0_letter_16 ?_
      replace k := k.2
      refine gcg_X0_170 h rfl e9_1 k.1 dX0_letter_19 ?_
      replace k := k.2
      refine gx_iload_n h 1 rfl dX0_letter_22 ?_
      obtain ⟨a23_2, e23_2, k⟩ := k
      refine gc_baldE (r := gc_R σ 300 a9_1) h e23_2 k.1 k.2.1 dX0_letter_23 ?_
      replace k := k.2.2
      refine gx_goto (tgt := 28) h (by decide) dX0_letter_24 ?_
      exact gx_iret h rfl dX0_letter_28 (⟨_, rfl, k⟩)
theorem bc_X0_letter_27 {θ : gc_T} {K : gx_K} {P : Int32 → gc_S → Prop} {σ : gc_S} {n bc bs : Nat} (h : gc_K θ K (nX0_letter n)) (k : P (-1) σ) : gc_G θ K (nX0_letter n) (gc_Pi P) 27 [] [] σ bc bs := by
  refine gx_iconst (v := (-1)) h dX0_letter_27 (by decide) ?_
  exact gx_iret h rfl dX0_letter_28 (⟨_, rfl, k⟩)
/-! X0.copy -/
theorem ec_X0_copy {θ : gc_T} {P : Int32 → gc_S → Prop} {σ : gc_S} {n c s : Nat} {a0 : Nat} {x1 : Int32} {x2 : Int32} (body : ∀ K, gc_K θ K (nX0_copy (n + 1) c s) → gc_G θ K (nX0_copy (n + 1) c s) (gc_Pi P) 0 [(0, va_rf (some a0)), (1, .int x1), (2, .int x2)] [] σ c s) : gx_C (gc_O θ) (nX0_copy (n + 1) c s) [.ref a0, .int x1, .int x2] σ (gc_Pi P) :=
  gx_C.intro (gc_z_warm θ) rfl (Nat.le_of_ble_eq_true rfl) body
theorem bc_X0_copy_0 {θ : gc_T} {K : gx_K} {P : Int32 → gc_S → Prop} {σ : gc_S} {x1 x2 : Int32} {a0 n c s bc bs : Nat} (h : gc_K θ K (nX0_copy (n + 1) c s)) (k : ∃ c2 s2 : Nat, (c2 ≤ bc ∧ s2 ≤ bs) ∧ gc_is σ a0 0 ∧ gx_C (gc_O θ) (nX0_tree n c2 s2) (.ref a0 :: [.int x1]) σ (gc_Qr (fun r2 σ2 => gx_C (gc_O θ) (nX0_isPlace n) [.int x2] σ2 (gc_Pi (fun r8 σ8 => gc_is σ8 a0 0 ∧ gx_C (gc_O θ) (nX0_need n) (.ref a0 :: [.int r8, .int (-1)]) σ8 (gc_Qv (fun σ12 => gc_is σ12 a0 0 ∧ ∃ a21_1 : Nat, r2 = some a21_1 ∧ ∃ c21 s21 : Nat, (c21 ≤ (bc - c2) ∧ s21 ≤ (bs - s2)) ∧ gc_is σ12 a21_1 7 ∧ gx_C (gc_O θ) (nX8_copy n c21 s21) (.ref a21_1 :: []) σ12 (gc_Pr (fun r21 σ21 => ∃ a24_2 : Nat, gc_R σ12 2 a0 = some a24_2 ∧ gc_is σ21 a24_2 19 ∧ vp_in x2 (gc_n σ21 a24_2) ∧ (∀ v, r21 = some v → gc_is σ21 v 7) ∧ ∀ σ24, σ24 = gc_sQ σ21 a24_2 x2.toNatClampNeg r21 → gc_is σ24 a21_1 7 ∧ P (gc_I σ24 703 a21_1) σ24))) (fun a12 σ12 => gc_is σ12 a12 1 ∧ gc_G θ K (nX0_copy (n + 1) c s) (gc_Pi P) 30 [(0, va_rf (some a0))] [va_rf (some a12)] σ12 (bc - c2) (bs - s2)))))) (fun a2 σ2 => gc_is σ2 a2 1 ∧ gc_G θ K (nX0_copy (n + 1) c s) (gc_Pi P) 30 [(0, va_rf (some a0))] [va_rf (some a2)] σ2 (bc - c2) (bs - s2)))) : gc_G θ K (nX0_copy (n + 1) c s) (gc_Pi P) 0 [(0, va_rf (some a0)), (1, .int x1), (2, .int x2)] [] σ bc bs := by
  refine gx_aload_nq (r := some a0) h 0 rfl dX0_copy_0 ?_
  refine gx_iload_n h 1 rfl dX0_copy_1 ?_
  obtain ⟨c2, s2, hb2, k⟩ := k
  refine gcc_X0_162 (r := some a0) (a0 := x1) h rfl ⟨Nat.le_refl _, Nat.le_refl _⟩ hb2 rfl k.1 (Nat.le_of_ble_eq_true rfl) dX0_copy_2 (gx_C.mono k.2 ?_)
  rintro o σ2 (⟨r2, rfl, k⟩ | ⟨a2, rfl, k⟩)
  · refine Or.inl ⟨r2, rfl, ?_⟩
    refine gx_astore_nq (r := r2) (L' := [(3, va_rf r2), (0, va_rf (some a0)), (1, .int x1), (2, .int x2)]) h (Nat.le_of_ble_eq_true rfl) rfl dX0_copy_5 ?_
    refine gx_aload_nq (r := some a0) h 1 rfl dX0_copy_6 ?_
    refine gx_iload_n h 3 rfl dX0_copy_7 ?_
    refine gcc_X0_142 (a0 := x2) h rfl ⟨Nat.le_refl _, Nat.le_refl _⟩ (Nat.le_of_ble_eq_true rfl) dX0_copy_8 (gx_C.mono k ?_)
    rintro _ σ8 ⟨r8, rfl, k⟩
    refine ⟨r8, rfl, ?_⟩
    refine gx_iconst (v := (-1)) h dX0_copy_11 (by decide) ?_
    refine gcc_X0_131 (r := some a0) (a0 := r8) (a1 := (-1)) h rfl ⟨Nat.le_refl _, Nat.le_refl _⟩ rfl k.1 (Nat.le_of_ble_eq_true rfl) dX0_copy_12 (gx_C.mono k.2 ?_)
    rintro o σ12 (⟨rfl, k⟩ | ⟨a12, rfl, k⟩)
    · refine Or.inl ⟨rfl, ?_⟩
      refine gx_aload_nq (r := some a0) h 1 rfl dX0_copy_15 ?_
      refine gcg_X0_46 h rfl rfl k.1 dX0_copy_16 ?_
      replace k := k.2
      refine gx_iload_n h 3 rfl dX0_copy_19 ?_
      refine gx_aload_nq (r := r2) h 0 rfl dX0_copy_20 ?_
      obtain ⟨a21_1, e21_1, k⟩ := k
      obtain ⟨c21, s21, hb21, k⟩ := k
      refine gcc_X0_173 (r := r2)  h rfl ⟨Nat.le_refl _, Nat.le_refl _⟩ hb21 e21_1 k.1 (by simp only [List.map_cons, List.map_nil, List.sum_cons, List.sum_nil, gx_cat]; exact Nat.le_of_ble_eq_true rfl) dX0_copy_21 (gx_C.mono k.2 ?_)
      rintro _ σ21 ⟨r21, rfl, k⟩
      refine ⟨r21, rfl, ?_⟩
      obtain ⟨a24_2, e24_2, k⟩ := k
      refine gc_aast19E (r := gc_R σ12 2 a0) (w := r21) h e24_2 k.1 k.2.1 k.2.2.1 dX0_copy_24 ?_
      generalize hz : gc_sQ σ21 a24_2 x2.toNatClampNeg r21 = σ24
      replace k := k.2.2.2 σ24 hz.symm
      refine gx_aload_nq (r := r2) h 0 rfl dX0_copy_25 ?_
      refine gcg_X0_152 h rfl e21_1 k.1 dX0_copy_26 ?_
      replace k := k.2
      exact gx_iret h rfl dX0_copy_29 (⟨_, rfl, k⟩)
    · refine Or.inr ⟨a12, rfl, ?_⟩
      refine gc_catchF h rfl q107 q109 [] ⟨0, 29, 30, 33⟩ [] rfl rfl rfl rfl k.1 ?_
      replace k := k.2
      exact gx_sub [1] rfl k
  · refine Or.inr ⟨a2, rfl, ?_⟩
    refine gc_catchF h rfl q107 q109 [] ⟨0, 29, 30, 33⟩ [] rfl rfl rfl rfl k.1 ?_
    replace k := k.2
    exact gx_sub [0] rfl k
theorem bc_X0_copy_30 {θ : gc_T} {K : gx_K} {P : Int32 → gc_S → Prop} {σ : gc_S} {a0 s0 n c s bc bs : Nat} (h : gc_K θ K (nX0_copy (n + 1) c s)) (k : gc_is σ a0 0 ∧ gx_C (gc_O θ) (nX0_finds n) (.ref a0 :: [va_rf (some s0)]) σ (gc_Pi (fun r33 σ33 => P r33 σ33))) : gc_G θ K (nX0_copy (n + 1) c s) (gc_Pi P) 30 [(0, va_rf (some a0))] [va_rf (some s0)] σ bc bs := by
  refine gx_astore_nq (r := some s0) (L' := [(3, va_rf (some s0)), (0, va_rf (some a0))]) h (Nat.le_of_ble_eq_true rfl) rfl dX0_copy_30 ?_
  refine gx_aload_nq (r := some a0) h 1 rfl dX0_copy_31 ?_
  refine gx_aload_nq (r := some s0) h 0 rfl dX0_copy_32 ?_
  refine gcc_X0_138 (r := some a0) (a0 := some s0) h rfl ⟨Nat.le_refl _, Nat.le_refl _⟩ rfl k.1 (Nat.le_of_ble_eq_true rfl) dX0_copy_33 (gx_C.mono k.2 ?_)
  rintro _ σ33 ⟨r33, rfl, k⟩
  refine ⟨r33, rfl, ?_⟩
  exact gx_iret h rfl dX0_copy_36 (⟨_, rfl, k⟩)
/-! X0.clear -/
theorem ec_X0_clear {θ : gc_T} {P : Int32 → gc_S → Prop} {σ : gc_S} {n : Nat} {a0 : Nat} {x1 : Int32} (body : ∀ K, gc_K θ K (nX0_clear (n + 1)) → gc_G θ K (nX0_clear (n + 1)) (gc_Pi P) 0 [(0, va_rf (some a0)), (1, .int x1)] [] σ 0 0) : gx_C (gc_O θ) (nX0_clear (n + 1)) [.ref a0, .int x1] σ (gc_Pi P) :=
  gx_C.intro (gc_z_warm θ) rfl (Nat.le_of_ble_eq_true rfl) body
theorem bc_X0_clear_0 {θ : gc_T} {K : gx_K} {P : Int32 → gc_S → Prop} {σ : gc_S} {x1 : Int32} {a0 n bc bs : Nat} (h : gc_K θ K (nX0_clear (n + 1))) (k : gx_C (gc_O θ) (nX0_isPlace n) [.int x1] σ (gc_Pi (fun r2 σ2 => gc_is σ2 a0 0 ∧ gx_C (gc_O θ) (nX0_need n) (.ref a0 :: [.int r2, .int (-1)]) σ2 (gc_Qv (fun σ6 => gc_is σ6 a0 0 ∧ ∃ a14_1 : Nat, gc_R σ6 2 a0 = some a14_1 ∧ gc_is σ6 a14_1 19 ∧ vp_in x1 (gc_n σ6 a14_1) ∧ ((gc_Q σ6 a14_1 x1.toNatClampNeg = none → gc_is σ6 a0 0 ∧ gc_is σ6 a14_1 19 ∧ vp_in x1 (gc_n σ6 a14_1) ∧ (∀ v, none = some v → gc_is σ6 v 7) ∧ ∀ σ30, σ30 = gc_sQ σ6 a14_1 x1.toNatClampNeg none → P 0 σ30) ∧ (¬ gc_Q σ6 a14_1 x1.toNatClampNeg = none → gc_is σ6 a0 0 ∧ gc_is σ6 a14_1 19 ∧ vp_in x1 (gc_n σ6 a14_1) ∧ (∀ v, none = some v → gc_is σ6 v 7) ∧ ∀ σ30, σ30 = gc_sQ σ6 a14_1 x1.toNatClampNeg none → P 1 σ30))) (fun a6 σ6 => gc_is σ6 a6 1 ∧ gc_G θ K (nX0_clear (n + 1)) (gc_Pi P) 33 [(0, va_rf (some a0))] [va_rf (some a6)] σ6 bc bs))))) : gc_G θ K (nX0_clear (n + 1)) (gc_Pi P) 0 [(0, va_rf (some a0)), (1, .int x1)] [] σ bc bs := by
  refine gx_aload_nq (r := some a0) h 0 rfl dX0_clear_0 ?_
  refine gx_iload_n h 1 rfl dX0_clear_1 ?_
  refine gcc_X0_142 (a0 := x1) h rfl ⟨Nat.le_refl _, Nat.le_refl _⟩ (Nat.le_of_ble_eq_true rfl) dX0_clear_2 (gx_C.mono k ?_)
  rintro _ σ2 ⟨r2, rfl, k⟩
  refine ⟨r2, rfl, ?_⟩
  refine gx_iconst (v := (-1)) h dX0_clear_5 (by decide) ?_
  refine gcc_X0_131 (r := some a0) (a0 := r2) (a1 := (-1)) h rfl ⟨Nat.le_refl _, Nat.le_refl _⟩ rfl k.1 (Nat.le_of_ble_eq_true rfl) dX0_clear_6 (gx_C.mono k.2 ?_)
  rintro o σ6 (⟨rfl, k⟩ | ⟨a6, rfl, k⟩)
  · refine Or.inl ⟨rfl, ?_⟩
    refine gx_aload_nq (r := some a0) h 0 rfl dX0_clear_9 ?_
    refine gcg_X0_46 h rfl rfl k.1 dX0_clear_10 ?_
    replace k := k.2
    refine gx_iload_n h 1 rfl dX0_clear_13 ?_
    obtain ⟨a14_1, e14_1, k⟩ := k
    refine gc_aald19E (r := gc_R σ6 2 a0) h e14_1 k.1 k.2.1 dX0_clear_14 ?_
    replace k := k.2.2
    refine gx_ifnonnull (r := gc_Q σ6 a14_1 x1.toNatClampNeg) (tgt := 22) h (by decide) dX0_clear_15 (fun c => ?_) (fun c => ?_)
    · replace k := k.2 c
      refine gx_iconst (v := 1) h dX0_clear_22 (by decide) ?_
      refine gx_istore_n (L' := [(2, .int 1), (0, va_rf (some a0)), (1, .int x1)]) h (Nat.le_of_ble_eq_true rfl) rfl dX0_clear_23 ?_
      refine gx_aload_nq (r := some a0) h 1 rfl dX0_clear_24 ?_
      refine gcg_X0_46 h rfl rfl k.1 dX0_clear_25 ?_
      replace k := k.2
      refine gx_iload_n h 2 rfl dX0_clear_28 ?_
      refine gx_null h dX0_clear_29 ?_
      refine gc_aast19E (r := gc_R σ6 2 a0) (w := none) h e14_1 k.1 k.2.1 k.2.2.1 dX0_clear_30 ?_
      generalize hz : gc_sQ σ6 a14_1 x1.toNatClampNeg none = σ30
      replace k := k.2.2.2 σ30 hz.symm
      refine gx_iload_n h 0 rfl dX0_clear_31 ?_
      exact gx_iret h rfl dX0_clear_32 (⟨_, rfl, k⟩)
    · replace k := k.1 c
      refine gx_iconst (v := 0) h dX0_clear_18 (by decide) ?_
      refine gx_goto (tgt := 23) h (by decide) dX0_clear_19 ?_
      refine gx_istore_n (L' := [(2, .int 0), (0, va_rf (some a0)), (1, .int x1)]) h (Nat.le_of_ble_eq_true rfl) rfl dX0_clear_23 ?_
      refine gx_aload_nq (r := some a0) h 1 rfl dX0_clear_24 ?_
      refine gcg_X0_46 h rfl rfl k.1 dX0_clear_25 ?_
      replace k := k.2
      refine gx_iload_n h 2 rfl dX0_clear_28 ?_
      refine gx_null h dX0_clear_29 ?_
      refine gc_aast19E (r := gc_R σ6 2 a0) (w := none) h e14_1 k.1 k.2.1 k.2.2.1 dX0_clear_30 ?_
      generalize hz : gc_sQ σ6 a14_1 x1.toNatClampNeg none = σ30
      replace k := k.2.2.2 σ30 hz.symm
      refine gx_iload_n h 0 rfl dX0_clear_31 ?_
      exact gx_iret h rfl dX0_clear_32 (⟨_, rfl, k⟩)
  · refine Or.inr ⟨a6, rfl, ?_⟩
    refine gc_catchF h rfl q107 q109 [] ⟨0, 32, 33, 33⟩ [] rfl rfl rfl rfl k.1 ?_
    replace k := k.2
    exact gx_sub [0] rfl k
theorem bc_X0_clear_33 {θ : gc_T} {K : gx_K} {P : Int32 → gc_S → Prop} {σ : gc_S} {a0 s0 n bc bs : Nat} (h : gc_K θ K (nX0_clear (n + 1))) (k : gc_is σ a0 0 ∧ gx_C (gc_O θ) (nX0_finds n) (.ref a0 :: [va_rf (some s0)]) σ (gc_Pi (fun r36 σ36 => P r36 σ36))) : gc_G θ K (nX0_clear (n + 1)) (gc_Pi P) 33 [(0, va_rf (some a0))] [va_rf (some s0)] σ bc bs := by
  refine gx_astore_nq (r := some s0) (L' := [(2, va_rf (some s0)), (0, va_rf (some a0))]) h (Nat.le_of_ble_eq_true rfl) rfl dX0_clear_33 ?_
  refine gx_aload_nq (r := some a0) h 1 rfl dX0_clear_34 ?_
  refine gx_aload_nq (r := some s0) h 0 rfl dX0_clear_35 ?_
  refine gcc_X0_138 (r := some a0) (a0 := some s0) h rfl ⟨Nat.le_refl _, Nat.le_refl _⟩ rfl k.1 (Nat.le_of_ble_eq_true rfl) dX0_clear_36 (gx_C.mono k.2 ?_)
  rintro _ σ36 ⟨r36, rfl, k⟩
  refine ⟨r36, rfl, ?_⟩
  exact gx_iret h rfl dX0_clear_39 (⟨_, rfl, k⟩)
/-! X0.node -/
theorem ec_X0_node {θ : gc_T} {P : Int32 → gc_S → Prop} {σ : gc_S} {n c s : Nat} {a0 : Nat} {x1 : Int32} {x2 : Int32} {x3 : Int32} (body : ∀ K, gc_K θ K (nX0_node (n + 1) c s) → gc_G θ K (nX0_node (n + 1) c s) (gc_Pi P) 0 [(0, va_rf (some a0)), (1, .int x1), (2, .int x2), (3, .int x3)] [] σ c s) : gx_C (gc_O θ) (nX0_node (n + 1) c s) [.ref a0, .int x1, .int x2, .int x3] σ (gc_Pi P) :=
  gx_C.intro (gc_z_warm θ) rfl (Nat.le_of_ble_eq_true rfl) body
theorem bc_X0_node_0 {θ : gc_T} {K : gx_K} {P : Int32 → gc_S → Prop} {σ : gc_S} {x1 x2 x3 : Int32} {a0 n c s bc bs : Nat} (h : gc_K θ K (nX0_node (n + 1) c s)) (k : ∃ c2 s2 : Nat, (c2 ≤ bc ∧ s2 ≤ bs) ∧ gc_is σ a0 0 ∧ gx_C (gc_O θ) (nX0_tree n c2 s2) (.ref a0 :: [.int x1]) σ (gc_Qr (fun r2 σ2 => ((x2 < 0 → gc_G θ K (nX0_node (n + 1) c s) (gc_Pi P) 25 [(0, va_rf (some a0)), (2, .int x2), (3, .int x3), (4, va_rf r2)] [va_rf (some a0)] σ2 (bc - c2) (bs - s2)) ∧ (¬ x2 < 0 → ∃ a15_1 : Nat, r2 = some a15_1 ∧ gc_is σ2 a15_1 7 ∧ (((gc_I σ2 703 a15_1) ≤ x2 → gc_G θ K (nX0_node (n + 1) c s) (gc_Pi P) 25 [(0, va_rf (some a0)), (2, .int x2), (3, .int x3), (4, va_rf r2)] [va_rf (some a0)] σ2 (bc - c2) (bs - s2)) ∧ (¬ (gc_I σ2 703 a15_1) ≤ x2 → gc_G θ K (nX0_node (n + 1) c s) (gc_Pi P) 26 [(0, va_rf (some a0)), (2, .int x2), (3, .int x3), (4, va_rf r2)] [.int 1, va_rf (some a0)] σ2 (bc - c2) (bs - s2)))))) (fun a2 σ2 => gc_is σ2 a2 1 ∧ gc_G θ K (nX0_node (n + 1) c s) (gc_Pi P) 184 [(0, va_rf (some a0))] [va_rf (some a2)] σ2 (bc - c2) (bs - s2)))) : gc_G θ K (nX0_node (n + 1) c s) (gc_Pi P) 0 [(0, va_rf (some a0)), (1, .int x1), (2, .int x2), (3, .int x3)] [] σ bc bs := by
  refine gx_aload_nq (r := some a0) h 0 rfl dX0_node_0 ?_
  refine gx_iload_n h 1 rfl dX0_node_1 ?_
  obtain ⟨c2, s2, hb2, k⟩ := k
  refine gcc_X0_162 (r := some a0) (a0 := x1) h rfl ⟨Nat.le_refl _, Nat.le_refl _⟩ hb2 rfl k.1 (Nat.le_of_ble_eq_true rfl) dX0_node_2 (gx_C.mono k.2 ?_)
  rintro o σ2 (⟨r2, rfl, k⟩ | ⟨a2, rfl, k⟩)
  · refine Or.inl ⟨r2, rfl, ?_⟩
    refine gx_astoreq (r := r2) (L' := [(4, va_rf r2), (0, va_rf (some a0)), (1, .int x1), (2, .int x2), (3, .int x3)]) h (Nat.le_of_ble_eq_true rfl) rfl dX0_node_5 ?_
    refine gx_aload_nq (r := some a0) h 1 rfl dX0_node_7 ?_
    refine gx_iload_n h 3 rfl dX0_node_8 ?_
    refine gx_if_lt (tgt := 25) h (by decide) dX0_node_9 (fun c => ?_) (fun c => ?_)
    · replace k := k.1 c
      exact gx_sub [1, 3, 4, 0] rfl k
    · replace k := k.2 c
      refine gx_iload_n h 3 rfl dX0_node_12 ?_
      refine gx_aloadq (r := r2) h 0 rfl dX0_node_13 ?_
      obtain ⟨a15_1, e15_1, k⟩ := k
      refine gcg_X0_152 h rfl e15_1 k.1 dX0_node_15 ?_
      replace k := k.2
      refine gx_icmp_ge (tgt := 25) h (by decide) dX0_node_18 (fun c => ?_) (fun c => ?_)
      · replace k := k.1 c
        exact gx_sub [1, 3, 4, 0] rfl k
      · replace k := k.2 c
        refine gx_iconst (v := 1) h dX0_node_21 (by decide) ?_
        refine gx_goto (tgt := 26) h (by decide) dX0_node_22 ?_
        exact gx_sub [1, 3, 4, 0] rfl k
  · refine Or.inr ⟨a2, rfl, ?_⟩
    refine gc_catchF h rfl q107 q109 [] ⟨0, 97, 184, 33⟩ [⟨98, 103, 184, 33⟩, ⟨104, 112, 184, 33⟩, ⟨113, 118, 184, 33⟩, ⟨119, 140, 184, 33⟩, ⟨141, 154, 184, 33⟩, ⟨155, 160, 184, 33⟩, ⟨161, 167, 184, 33⟩, ⟨168, 174, 184, 33⟩, ⟨175, 184, 184, 33⟩] rfl rfl rfl rfl k.1 ?_
    replace k := k.2
    exact gx_sub [0] rfl k
theorem bc_X0_node_25 {θ : gc_T} {K : gx_K} {P : Int32 → gc_S → Prop} {σ : gc_S} {x2 x3 : Int32} {x4 s0 : Option Nat} {a0 n c s bc bs : Nat} (h : gc_K θ K (nX0_node (n + 1) c s)) (k : gc_G θ K (nX0_node (n + 1) c s) (gc_Pi P) 26 [(0, va_rf (some a0)), (2, .int x2), (3, .int x3), (4, va_rf x4)] [.int 0, va_rf s0] σ bc bs) : gc_G θ K (nX0_node (n + 1) c s) (gc_Pi P) 25 [(0, va_rf (some a0)), (2, .int x2), (3, .int x3), (4, va_rf x4)] [va_rf s0] σ bc bs := by
  refine gx_iconst (v := 0) h dX0_node_25 (by decide) ?_
  exact k
theorem bc_X0_node_26 {θ : gc_T} {K : gx_K} {P : Int32 → gc_S → Prop} {σ : gc_S} {x2 x3 s0 : Int32} {x4 s1 : Option Nat} {a0 n c s bc bs : Nat} (h : gc_K θ K (nX0_node (n + 1) c s)) (k : ∃ a27_1 : Nat, s1 = some a27_1 ∧ gc_is σ a27_1 0 ∧ gx_C (gc_O θ) (nX0_need n) (.ref a27_1 :: [.int s0, .int (-1)]) σ (gc_Qv (fun σ27 => ∃ a32_2 : Nat, x4 = some a32_2 ∧ gc_is σ27 a32_2 7 ∧ ∃ a36_3 : Nat, gc_R σ27 701 a32_2 = some a36_3 ∧ gc_is σ27 a36_3 18 ∧ vp_in x2 (gc_n σ27 a36_3) ∧ ((x3 = 0 → ∃ a94_4 : Nat, gc_Q σ27 a36_3 x2.toNatClampNeg = some a94_4 ∧ gc_isN σ27 a94_4 ∧ P (gc_I σ27 800 a94_4) σ27) ∧ (x3 = 1 → ∃ a100_5 : Nat, gc_Q σ27 a36_3 x2.toNatClampNeg = some a100_5 ∧ gc_isN σ27 a100_5 ∧ vC_kind θ n σ27 a100_5 [] (gc_Pi (fun r100 σ100 => P r100 σ100))) ∧ (x3 = 2 → ∃ a106_6 : Nat, gc_Q σ27 a36_3 x2.toNatClampNeg = some a106_6 ∧ gc_isN σ27 a106_6 ∧ ∃ a109_7 : Nat, gc_R σ27 804 a106_6 = some a109_7 ∧ gc_is σ27 a109_7 12 ∧ gx_C (gc_O θ) (nJ5_size n) (.ref a109_7 :: []) σ27 (gc_Pi (fun r109 σ109 => P r109 σ109))) ∧ (x3 = 3 → ∃ a115_8 : Nat, gc_Q σ27 a36_3 x2.toNatClampNeg = some a115_8 ∧ gc_isN σ27 a115_8 ∧ P (gc_I σ27 808 a115_8) σ27) ∧ (x3 = 4 → ∃ a121_9 : Nat, gc_Q σ27 a36_3 x2.toNatClampNeg = some a121_9 ∧ gc_isN σ27 a121_9 ∧ ((gc_R σ27 803 a121_9 = none → P (-8) σ27) ∧ (¬ gc_R σ27 803 a121_9 = none → gc_isN σ27 a121_9 ∧ ∃ a137_10 : Nat, gc_R σ27 803 a121_9 = some a137_10 ∧ gc_isN σ27 a137_10 ∧ P (gc_I σ27 800 a137_10) σ27))) ∧ (x3 = 5 → ∃ a143_11 : Nat, gc_Q σ27 a36_3 x2.toNatClampNeg = some a143_11 ∧ gc_isN σ27 a143_11 ∧ gc_isN σ27 a143_11 ∧ P (((gc_I σ27 806 a143_11) - (gc_I σ27 807 a143_11)) + 1) σ27) ∧ (x3 = 6 → ∃ a157_12 : Nat, gc_Q σ27 a36_3 x2.toNatClampNeg = some a157_12 ∧ gc_isN σ27 a157_12 ∧ P (gc_I σ27 806 a157_12) σ27) ∧ (x3 = 7 → ∃ a163_13 : Nat, gc_Q σ27 a36_3 x2.toNatClampNeg = some a163_13 ∧ gc_isN σ27 a163_13 ∧ ∃ a166_14 : Nat, gc_R σ27 801 a163_13 = some a166_14 ∧ gc_isB θ σ27 a166_14 ∧ P (Int32.ofNat (gc_n σ27 a166_14)) σ27) ∧ (x3 = 8 → ∃ a170_15 : Nat, gc_Q σ27 a36_3 x2.toNatClampNeg = some a170_15 ∧ gc_isN σ27 a170_15 ∧ ∃ a173_16 : Nat, gc_R σ27 802 a170_15 = some a173_16 ∧ gc_isB θ σ27 a173_16 ∧ P (Int32.ofNat (gc_n σ27 a173_16)) σ27) ∧ (¬ x3 = 0 → ¬ x3 = 1 → ¬ x3 = 2 → ¬ x3 = 3 → ¬ x3 = 4 → ¬ x3 = 5 → ¬ x3 = 6 → ¬ x3 = 7 → ¬ x3 = 8 → gc_is σ27 a0 0 ∧ ∃ a180_17 : Nat, gc_R σ27 0 a0 = some a180_17 ∧ gc_is σ27 a180_17 1 ∧ gx_C (gc_O θ) (nX1_of n) (.ref a180_17 :: [.int (-1)]) σ27 (gc_Pr (fun r180 σ180 => ∃ a183_18 : Nat, r180 = some a183_18 ∧ gc_is σ180 a183_18 1 ∧ gc_G θ K (nX0_node (n + 1) c s) (gc_Pi P) 184 [(0, va_rf (some a0))] [va_rf (some a183_18)] σ180 bc bs))))) (fun a27 σ27 => gc_is σ27 a27 1 ∧ gc_G θ K (nX0_node (n + 1) c s) (gc_Pi P) 184 [(0, va_rf (some a0))] [va_rf (some a27)] σ27 bc bs))) : gc_G θ K (nX0_node (n + 1) c s) (gc_Pi P) 26 [(0, va_rf (some a0)), (2, .int x2), (3, .int x3), (4, va_rf x4)] [.int s0, va_rf s1] σ bc bs := by
  refine gx_iconst (v := (-1)) h dX0_node_26 (by decide) ?_
  obtain ⟨a27_1, e27_1, k⟩ := k
  refine gcc_X0_131 (r := s1) (a0 := s0) (a1 := (-1)) h rfl ⟨Nat.le_refl _, Nat.le_refl _⟩ e27_1 k.1 (Nat.le_of_ble_eq_true rfl) dX0_node_27 (gx_C.mono k.2 ?_)
  rintro o σ27 (⟨rfl, k⟩ | ⟨a27, rfl, k⟩)
  · refine Or.inl ⟨rfl, ?_⟩
    refine gx_aloadq (r := x4) h 3 rfl dX0_node_30 ?_
    obtain ⟨a32_2, e32_2, k⟩ := k
    refine gcg_X0_155 h rfl e32_2 k.1 dX0_node_32 ?_
    replace k := k.2
    refine gx_iload_n h 1 rfl dX0_node_35 ?_
    obtain ⟨a36_3, e36_3, k⟩ := k
    refine gc_aald18E (r := gc_R σ27 701 a32_2) h e36_3 k.1 k.2.1 dX0_node_36 ?_
    replace k := k.2.2
    refine gx_astoreq (r := gc_Q σ27 a36_3 x2.toNatClampNeg) (L' := [(5, va_rf (gc_Q σ27 a36_3 x2.toNatClampNeg)), (0, va_rf (some a0)), (2, .int x2), (3, .int x3), (4, va_rf x4)]) h (Nat.le_of_ble_eq_true rfl) (by generalize x4 = z; cases z <;> rfl) dX0_node_37 ?_
    refine gx_iload_n h 3 rfl dX0_node_39 ?_
    refine gx_tsw2 (N := 9) (tgt := 175) (fun j => match j with | 0 => 92 | 1 => 98 | 2 => 104 | 3 => 113 | 4 => 119 | 5 => 141 | 6 => 155 | 7 => 161 | _ => 168) h (by decide) dX0_node_40 (by decide) (by decide) ?_ ?_ (by decide)
    · intro j hj hu
      match j, hj, hu with
      | 0, _, hu =>
        replace k := k.1 hu
        refine gx_aloadq (r := gc_Q σ27 a36_3 x2.toNatClampNeg) h 0 rfl dX0_node_92 ?_
        obtain ⟨a94_4, e94_4, k⟩ := k
        refine gcg_X0_118 h rfl e94_4 k.1 dX0_node_94 ?_
        replace k := k.2
        exact gx_iret h rfl dX0_node_97 (⟨_, rfl, k⟩)
      | 1, _, hu =>
        replace k := k.2.1 hu
        refine gx_aloadq (r := gc_Q σ27 a36_3 x2.toNatClampNeg) h 0 rfl dX0_node_98 ?_
        obtain ⟨a100_5, e100_5, k⟩ := k
        refine gcc_X0_177 (r := gc_Q σ27 a36_3 x2.toNatClampNeg)  h rfl ⟨Nat.le_refl _, Nat.le_refl _⟩ e100_5 k.1 (Nat.le_of_ble_eq_true rfl) dX0_node_100 (vC_kind_mono k.2 ?_)
        rintro _ σ100 ⟨r100, rfl, k⟩
        refine ⟨r100, rfl, ?_⟩
        exact gx_iret h rfl dX0_node_103 (⟨_, rfl, k⟩)
      | 2, _, hu =>
        replace k := k.2.2.1 hu
        refine gx_aloadq (r := gc_Q σ27 a36_3 x2.toNatClampNeg) h 0 rfl dX0_node_104 ?_
        obtain ⟨a106_6, e106_6, k⟩ := k
        refine gcg_X0_181 h rfl e106_6 k.1 dX0_node_106 ?_
        replace k := k.2
        obtain ⟨a109_7, e109_7, k⟩ := k
        refine gcc_X0_185 (r := gc_R σ27 804 a106_6)  h rfl ⟨Nat.le_refl _, Nat.le_refl _⟩ e109_7 k.1 (Nat.le_of_ble_eq_true rfl) dX0_node_109 (gx_C.mono k.2 ?_)
        rintro _ σ109 ⟨r109, rfl, k⟩
        refine ⟨r109, rfl, ?_⟩
        exact gx_iret h rfl dX0_node_112 (⟨_, rfl, k⟩)
      | 3, _, hu =>
        replace k := k.2.2.2.1 hu
        refine gx_aloadq (r := gc_Q σ27 a36_3 x2.toNatClampNeg) h 0 rfl dX0_node_113 ?_
        obtain ⟨a115_8, e115_8, k⟩ := k
        refine gcg_X0_189 h rfl e115_8 k.1 dX0_node_115 ?_
        replace k := k.2
        exact gx_iret h rfl dX0_node_118 (⟨_, rfl, k⟩)
      | 4, _, hu =>
        replace k := k.2.2.2.2.1 hu
        refine gx_aloadq (r := gc_Q σ27 a36_3 x2.toNatClampNeg) h 0 rfl dX0_node_119 ?_
        obtain ⟨a121_9, e121_9, k⟩ := k
        refine gcg_X0_192 h rfl e121_9 k.1 dX0_node_121 ?_
        replace k := k.2
        refine gx_ifnonnull (r := gc_R σ27 803 a121_9) (tgt := 132) h (by decide) dX0_node_124 (fun c => ?_) (fun c => ?_)
        · replace k := k.2 c
          refine gx_aloadq (r := gc_Q σ27 a36_3 x2.toNatClampNeg) h 0 rfl dX0_node_132 ?_
          refine gcg_X0_192 h rfl e121_9 k.1 dX0_node_134 ?_
          replace k := k.2
          obtain ⟨a137_10, e137_10, k⟩ := k
          refine gcg_X0_118 h rfl e137_10 k.1 dX0_node_137 ?_
          replace k := k.2
          exact gx_iret h rfl dX0_node_140 (⟨_, rfl, k⟩)
        · replace k := k.1 c
          refine gx_bipush (v := (-8)) h dX0_node_127 (by decide) ?_
          refine gx_goto (tgt := 140) h (by decide) dX0_node_129 ?_
          exact gx_iret h rfl dX0_node_140 (⟨_, rfl, k⟩)
      | 5, _, hu =>
        replace k := k.2.2.2.2.2.1 hu
        refine gx_aloadq (r := gc_Q σ27 a36_3 x2.toNatClampNeg) h 0 rfl dX0_node_141 ?_
        obtain ⟨a143_11, e143_11, k⟩ := k
        refine gcg_X0_195 h rfl e143_11 k.1 dX0_node_143 ?_
        replace k := k.2
        refine gx_aloadq (r := gc_Q σ27 a36_3 x2.toNatClampNeg) h 0 rfl dX0_node_146 ?_
        refine gcg_X0_198 h rfl e143_11 k.1 dX0_node_148 ?_
        replace k := k.2
        refine gx_isub h dX0_node_151 ?_
        refine gx_iconst (v := 1) h dX0_node_152 (by decide) ?_
        refine gx_iadd h dX0_node_153 ?_
        exact gx_iret h rfl dX0_node_154 (⟨_, rfl, k⟩)
      | 6, _, hu =>
        replace k := k.2.2.2.2.2.2.1 hu
        refine gx_aloadq (r := gc_Q σ27 a36_3 x2.toNatClampNeg) h 0 rfl dX0_node_155 ?_
        obtain ⟨a157_12, e157_12, k⟩ := k
        refine gcg_X0_195 h rfl e157_12 k.1 dX0_node_157 ?_
        replace k := k.2
        exact gx_iret h rfl dX0_node_160 (⟨_, rfl, k⟩)
      | 7, _, hu =>
        replace k := k.2.2.2.2.2.2.2.1 hu
        refine gx_aloadq (r := gc_Q σ27 a36_3 x2.toNatClampNeg) h 0 rfl dX0_node_161 ?_
        obtain ⟨a163_13, e163_13, k⟩ := k
        refine gcg_X0_201 h rfl e163_13 k.1 dX0_node_163 ?_
        replace k := k.2
        obtain ⟨a166_14, e166_14, k⟩ := k
        refine gc_alen15E (r := gc_R σ27 801 a163_13) h e166_14 k.1 dX0_node_166 ?_
        replace k := k.2
        exact gx_iret h rfl dX0_node_167 (⟨_, rfl, k⟩)
      | 8, _, hu =>
        replace k := k.2.2.2.2.2.2.2.2.1 hu
        refine gx_aloadq (r := gc_Q σ27 a36_3 x2.toNatClampNeg) h 0 rfl dX0_node_168 ?_
        obtain ⟨a170_15, e170_15, k⟩ := k
        refine gcg_X0_204 h rfl e170_15 k.1 dX0_node_170 ?_
        replace k := k.2
        obtain ⟨a173_16, e173_16, k⟩ := k
        refine gc_alen15E (r := gc_R σ27 802 a170_15) h e173_16 k.1 dX0_node_173 ?_
        replace k := k.2
        exact gx_iret h rfl dX0_node_174 (⟨_, rfl, k⟩)
      | j + 9, hj, _ => exact absurd hj (by omega)
    · intro hu
      replace k := k.2.2.2.2.2.2.2.2.2 (hu 0 (by decide)) (hu 1 (by decide)) (hu 2 (by decide)) (hu 3 (by decide)) (hu 4 (by decide)) (hu 5 (by decide)) (hu 6 (by decide)) (hu 7 (by decide)) (hu 8 (by decide))
      refine gx_aload_nq (r := some a0) h 1 rfl dX0_node_175 ?_
      refine gcg_X0_36 h rfl rfl k.1 dX0_node_176 ?_
      replace k := k.2
      refine gx_iconst (v := (-1)) h dX0_node_179 (by decide) ?_
      obtain ⟨a180_17, e180_17, k⟩ := k
      refine gcc_X0_106 (r := gc_R σ27 0 a0) (a0 := (-1)) h rfl ⟨Nat.le_refl _, Nat.le_refl _⟩ e180_17 k.1 (Nat.le_of_ble_eq_true rfl) dX0_node_180 (gx_C.mono k.2 ?_)
      rintro _ σ180 ⟨r180, rfl, k⟩
      refine ⟨r180, rfl, ?_⟩
      obtain ⟨a183_18, e183_18, k⟩ := k
      refine gc_athrow (r := r180) h e183_18 dX0_node_183 ?_
      refine gc_catchF h rfl q107 q109 [⟨0, 97, 184, 33⟩, ⟨98, 103, 184, 33⟩, ⟨104, 112, 184, 33⟩, ⟨113, 118, 184, 33⟩, ⟨119, 140, 184, 33⟩, ⟨141, 154, 184, 33⟩, ⟨155, 160, 184, 33⟩, ⟨161, 167, 184, 33⟩, ⟨168, 174, 184, 33⟩] ⟨175, 184, 184, 33⟩ [] rfl rfl rfl rfl k.1 ?_
      replace k := k.2
      exact gx_sub [1] rfl k
  · refine Or.inr ⟨a27, rfl, ?_⟩
    refine gc_catchF h rfl q107 q109 [] ⟨0, 97, 184, 33⟩ [⟨98, 103, 184, 33⟩, ⟨104, 112, 184, 33⟩, ⟨113, 118, 184, 33⟩, ⟨119, 140, 184, 33⟩, ⟨141, 154, 184, 33⟩, ⟨155, 160, 184, 33⟩, ⟨161, 167, 184, 33⟩, ⟨168, 174, 184, 33⟩, ⟨175, 184, 184, 33⟩] rfl rfl rfl rfl k.1 ?_
    replace k := k.2
    exact gx_sub [0] rfl k
theorem bc_X0_node_184 {θ : gc_T} {K : gx_K} {P : Int32 → gc_S → Prop} {σ : gc_S} {a0 s0 n c s bc bs : Nat} (h : gc_K θ K (nX0_node (n + 1) c s)) (k : gc_is σ a0 0 ∧ gx_C (gc_O θ) (nX0_finds n) (.ref a0 :: [va_rf (some s0)]) σ (gc_Pi (fun r189 σ189 => P r189 σ189))) : gc_G θ K (nX0_node (n + 1) c s) (gc_Pi P) 184 [(0, va_rf (some a0))] [va_rf (some s0)] σ bc bs := by
  refine gx_astoreq (r := some s0) (L' := [(4, va_rf (some s0)), (0, va_rf (some a0))]) h (Nat.le_of_ble_eq_true rfl) rfl dX0_node_184 ?_
  refine gx_aload_nq (r := some a0) h 1 rfl dX0_node_186 ?_
  refine gx_aloadq (r := some s0) h 0 rfl dX0_node_187 ?_
  refine gcc_X0_138 (r := some a0) (a0 := some s0) h rfl ⟨Nat.le_refl _, Nat.le_refl _⟩ rfl k.1 (Nat.le_of_ble_eq_true rfl) dX0_node_189 (gx_C.mono k.2 ?_)
  rintro _ σ189 ⟨r189, rfl, k⟩
  refine ⟨r189, rfl, ?_⟩
  exact gx_iret h rfl dX0_node_192 (⟨_, rfl, k⟩)
