set_option maxRecDepth 100000
/-! X5.sort -/
theorem ec_X5_sort {θ : gc_T} {P : gc_S → Prop} {σ : gc_S} {n : Nat} {x0 : Option Nat} {x1 : Int32} (body : ∀ K, gc_K θ K (nX5_sort n) → gc_G θ K (nX5_sort n) (gc_Pv P) 0 [(0, va_rf x0), (1, .int x1)] [] σ 0 0) : gx_C (gc_O θ) (nX5_sort n) [va_rf x0, .int x1] σ (gc_Pv P) := by
  refine gx_C.intro (gc_z_warm θ) rfl (by cases x0 <;> exact Nat.le_of_ble_eq_true rfl) (fun K h => ?_)
  have k := body K h
  cases x0 <;> exact k
theorem bc_X5_sort_0 {θ : gc_T} {K : gx_K} {P : gc_S → Prop} {σ : gc_S} {x1 : Int32} {x0 : Option Nat} {n bc bs : Nat} (h : gc_K θ K (nX5_sort n)) (k : gc_G θ K (nX5_sort n) (gc_Pv P) 4 [(0, va_rf x0), (1, .int x1), (2, .int (x1 + 1))] [] σ bc bs) : gc_G θ K (nX5_sort n) (gc_Pv P) 0 [(0, va_rf x0), (1, .int x1)] [] σ bc bs := by
  refine gx_iload_n h 1 rfl dX5_sort_0 ?_
  refine gx_iconst (v := 1) h dX5_sort_1 (by decide) ?_
  refine gx_iadd h dX5_sort_2 ?_
  refine gx_istore_n (L' := [(2, .int (x1 + 1)), (0, va_rf x0), (1, .int x1)]) h (Nat.le_of_ble_eq_true rfl) rfl dX5_sort_3 ?_
  exact gx_sub [1, 2, 0] rfl k
theorem bc_X5_sort_4 {θ : gc_T} {K : gx_K} {P : gc_S → Prop} {σ : gc_S} {x1 x2 : Int32} {x0 : Option Nat} {n bc bs : Nat} (h : gc_K θ K (nX5_sort n)) (k : ∃ a6_1 : Nat, x0 = some a6_1 ∧ gc_is σ a6_1 14 ∧ (((Int32.ofNat (gc_n σ a6_1)) ≤ x2 → P σ) ∧ (¬ (Int32.ofNat (gc_n σ a6_1)) ≤ x2 → gc_is σ a6_1 14 ∧ vp_in x2 (gc_n σ a6_1) ∧ ∀ x3_13 : Int32, x3_13 = gc_E σ a6_1 x2.toNatClampNeg → gc_G θ K (nX5_sort n) (gc_Pv P) 17 [(0, va_rf x0), (1, .int x1), (2, .int x2), (3, .int x3_13), (4, .int x2)] [] σ bc bs))) : gc_G θ K (nX5_sort n) (gc_Pv P) 4 [(0, va_rf x0), (1, .int x1), (2, .int x2)] [] σ bc bs := by
  refine gx_iload_n h 2 rfl dX5_sort_4 ?_
  refine gx_aload_nq (r := x0) h 0 rfl dX5_sort_5 ?_
  obtain ⟨a6_1, e6_1, k⟩ := k
  refine gc_alen14E (r := x0) h e6_1 k.1 dX5_sort_6 ?_
  replace k := k.2
  refine gx_icmp_ge (tgt := 60) h (by decide) dX5_sort_7 (fun c => ?_) (fun c => ?_)
  · replace k := k.1 c
    exact gx_vret h rfl dX5_sort_60 (⟨rfl, k⟩)
  · replace k := k.2 c
    refine gx_aload_nq (r := x0) h 0 rfl dX5_sort_10 ?_
    refine gx_iload_n h 2 rfl dX5_sort_11 ?_
    refine gc_ialdE (r := x0) h e6_1 k.1 k.2.1 dX5_sort_12 ?_
    replace k := k.2.2
    generalize hz : (gc_E σ a6_1 x2.toNatClampNeg) = x3_13
    replace k := k x3_13 hz.symm
    refine gx_istore_n (L' := [(3, .int x3_13), (0, va_rf x0), (1, .int x1), (2, .int x2)]) h (Nat.le_of_ble_eq_true rfl) rfl dX5_sort_13 ?_
    refine gx_iload_n h 3 rfl dX5_sort_14 ?_
    refine gx_istore (L' := [(4, .int x2), (3, .int x3_13), (0, va_rf x0), (1, .int x1), (2, .int x2)]) h (Nat.le_of_ble_eq_true rfl) rfl dX5_sort_15 ?_
    exact gx_sub [2, 3, 4, 1, 0] rfl k
theorem bc_X5_sort_17 {θ : gc_T} {K : gx_K} {P : gc_S → Prop} {σ : gc_S} {x1 x2 x3 x4 : Int32} {x0 : Option Nat} {n bc bs : Nat} (h : gc_K θ K (nX5_sort n)) (k : ((x4 ≤ x1 → gc_G θ K (nX5_sort n) (gc_Pv P) 49 [(0, va_rf x0), (1, .int x1), (2, .int x2), (3, .int x3), (4, .int x4)] [] σ bc bs) ∧ (¬ x4 ≤ x1 → ∃ a28_1 : Nat, x0 = some a28_1 ∧ gc_is σ a28_1 14 ∧ vp_in (x4 - 1) (gc_n σ a28_1) ∧ (((gc_E σ a28_1 (x4 - 1).toNatClampNeg) ≤ x3 → gc_G θ K (nX5_sort n) (gc_Pv P) 49 [(0, va_rf x0), (1, .int x1), (2, .int x2), (3, .int x3), (4, .int x4)] [] σ bc bs) ∧ (¬ (gc_E σ a28_1 (x4 - 1).toNatClampNeg) ≤ x3 → gc_is σ a28_1 14 ∧ vp_in (x4 - 1) (gc_n σ a28_1) ∧ gc_is σ a28_1 14 ∧ vp_in x4 (gc_n σ a28_1) ∧ ∀ σ42, σ42 = gc_sE σ a28_1 x4.toNatClampNeg (gc_E σ a28_1 (x4 - 1).toNatClampNeg) → gc_G θ K (nX5_sort n) (gc_Pv P) 17 [(0, va_rf x0), (1, .int x1), (2, .int x2), (3, .int x3), (4, .int (x4 + (-1)))] [] σ42 bc bs))))) : gc_G θ K (nX5_sort n) (gc_Pv P) 17 [(0, va_rf x0), (1, .int x1), (2, .int x2), (3, .int x3), (4, .int x4)] [] σ bc bs := by
  refine gx_iload h 4 rfl dX5_sort_17 ?_
  refine gx_iload_n h 1 rfl dX5_sort_19 ?_
  refine gx_icmp_le (tgt := 49) h (by decide) dX5_sort_20 (fun c => ?_) (fun c => ?_)
  · replace k := k.1 c
    exact k
  · replace k := k.2 c
    refine gx_aload_nq (r := x0) h 0 rfl dX5_sort_23 ?_
    refine gx_iload h 4 rfl dX5_sort_24 ?_
    refine gx_iconst (v := 1) h dX5_sort_26 (by decide) ?_
    refine gx_isub h dX5_sort_27 ?_
    obtain ⟨a28_1, e28_1, k⟩ := k
    refine gc_ialdE (r := x0) h e28_1 k.1 k.2.1 dX5_sort_28 ?_
    replace k := k.2.2
    refine gx_iload_n h 3 rfl dX5_sort_29 ?_
    refine gx_icmp_le (tgt := 49) h (by decide) dX5_sort_30 (fun c => ?_) (fun c => ?_)
    · replace k := k.1 c
      exact k
    · replace k := k.2 c
      refine gx_aload_nq (r := x0) h 0 rfl dX5_sort_33 ?_
      refine gx_iload h 4 rfl dX5_sort_34 ?_
      refine gx_aload_nq (r := x0) h 0 rfl dX5_sort_36 ?_
      refine gx_iload h 4 rfl dX5_sort_37 ?_
      refine gx_iconst (v := 1) h dX5_sort_39 (by decide) ?_
      refine gx_isub h dX5_sort_40 ?_
      refine gc_ialdE (r := x0) h e28_1 k.1 k.2.1 dX5_sort_41 ?_
      replace k := k.2.2
      refine gc_iastE (r := x0) h e28_1 k.1 k.2.1 dX5_sort_42 ?_
      generalize hz : gc_sE σ a28_1 x4.toNatClampNeg (gc_E σ a28_1 (x4 - 1).toNatClampNeg) = σ42
      replace k := k.2.2 σ42 hz.symm
      refine gx_iinc (v := x4 + (-1)) (L' := [(4, .int (x4 + (-1))), (0, va_rf x0), (1, .int x1), (2, .int x2), (3, .int x3)]) h 4 rfl (congrArg (fun q => x4 + q) (by decide)) (Nat.le_of_ble_eq_true rfl) rfl dX5_sort_43 ?_
      refine gx_goto (tgt := 17) h (by decide) dX5_sort_46 ?_
      exact gx_sub [1, 2, 3, 4, 0] rfl k
theorem bc_X5_sort_49 {θ : gc_T} {K : gx_K} {P : gc_S → Prop} {σ : gc_S} {x1 x2 x3 x4 : Int32} {x0 : Option Nat} {n bc bs : Nat} (h : gc_K θ K (nX5_sort n)) (k : ∃ a53_1 : Nat, x0 = some a53_1 ∧ gc_is σ a53_1 14 ∧ vp_in x4 (gc_n σ a53_1) ∧ ∀ σ53, σ53 = gc_sE σ a53_1 x4.toNatClampNeg x3 → gc_G θ K (nX5_sort n) (gc_Pv P) 4 [(0, va_rf x0), (1, .int x1), (2, .int (x2 + 1))] [] σ53 bc bs) : gc_G θ K (nX5_sort n) (gc_Pv P) 49 [(0, va_rf x0), (1, .int x1), (2, .int x2), (3, .int x3), (4, .int x4)] [] σ bc bs := by
  refine gx_aload_nq (r := x0) h 0 rfl dX5_sort_49 ?_
  refine gx_iload h 4 rfl dX5_sort_50 ?_
  refine gx_iload_n h 3 rfl dX5_sort_52 ?_
  obtain ⟨a53_1, e53_1, k⟩ := k
  refine gc_iastE (r := x0) h e53_1 k.1 k.2.1 dX5_sort_53 ?_
  generalize hz : gc_sE σ a53_1 x4.toNatClampNeg x3 = σ53
  replace k := k.2.2 σ53 hz.symm
  refine gx_iinc (v := x2 + 1) (L' := [(2, .int (x2 + 1)), (0, va_rf x0), (1, .int x1), (3, .int x3), (4, .int x4)]) h 2 rfl rfl (Nat.le_of_ble_eq_true rfl) rfl dX5_sort_54 ?_
  refine gx_goto (tgt := 4) h (by decide) dX5_sort_57 ?_
  exact gx_sub [1, 2, 0] rfl k
/-! X5.isSame -/
theorem ec_X5_isSame {θ : gc_T} {P : Int32 → gc_S → Prop} {σ : gc_S} {n : Nat} {x0 : Option Nat} {x1 : Option Nat} (body : ∀ K, gc_K θ K (nX5_isSame n) → gc_G θ K (nX5_isSame n) (gc_Pi P) 0 [(0, va_rf x0), (1, va_rf x1)] [] σ 0 0) : gx_C (gc_O θ) (nX5_isSame n) [va_rf x0, va_rf x1] σ (gc_Pi P) := by
  refine gx_C.intro (gc_z_warm θ) rfl (by cases x0 <;>  cases x1 <;> exact Nat.le_of_ble_eq_true rfl) (fun K h => ?_)
  have k := body K h
  cases x0 <;>  cases x1 <;> exact k
theorem bc_X5_isSame_0 {θ : gc_T} {K : gx_K} {P : Int32 → gc_S → Prop} {σ : gc_S} {x0 x1 : Option Nat} {n bc bs : Nat} (h : gc_K θ K (nX5_isSame n)) (k : ∃ a1_1 : Nat, x0 = some a1_1 ∧ gc_is σ a1_1 14 ∧ ∃ a3_2 : Nat, x1 = some a3_2 ∧ gc_is σ a3_2 14 ∧ (((Int32.ofNat (gc_n σ a1_1)) = (Int32.ofNat (gc_n σ a3_2)) → gc_G θ K (nX5_isSame n) (gc_Pi P) 12 [(0, va_rf x0), (1, va_rf x1)] [.int 1] σ bc bs) ∧ (¬ (Int32.ofNat (gc_n σ a1_1)) = (Int32.ofNat (gc_n σ a3_2)) → gc_G θ K (nX5_isSame n) (gc_Pi P) 12 [(0, va_rf x0), (1, va_rf x1)] [.int 0] σ bc bs))) : gc_G θ K (nX5_isSame n) (gc_Pi P) 0 [(0, va_rf x0), (1, va_rf x1)] [] σ bc bs := by
  refine gx_aload_nq (r := x0) h 0 rfl dX5_isSame_0 ?_
  obtain ⟨a1_1, e1_1, k⟩ := k
  refine gc_alen14E (r := x0) h e1_1 k.1 dX5_isSame_1 ?_
  replace k := k.2
  refine gx_aload_nq (r := x1) h 1 rfl dX5_isSame_2 ?_
  obtain ⟨a3_2, e3_2, k⟩ := k
  refine gc_alen14E (r := x1) h e3_2 k.1 dX5_isSame_3 ?_
  replace k := k.2
  refine gx_icmp_ne (tgt := 11) h (by decide) dX5_isSame_4 (fun c => ?_) (fun c => ?_)
  · replace k := k.2 c
    refine gx_iconst (v := 0) h dX5_isSame_11 (by decide) ?_
    exact k
  · replace k := k.1 c
    refine gx_iconst (v := 1) h dX5_isSame_7 (by decide) ?_
    refine gx_goto (tgt := 12) h (by decide) dX5_isSame_8 ?_
    exact k
theorem bc_X5_isSame_12 {θ : gc_T} {K : gx_K} {P : Int32 → gc_S → Prop} {σ : gc_S} {s0 : Int32} {x0 x1 : Option Nat} {n bc bs : Nat} (h : gc_K θ K (nX5_isSame n)) (k : gc_G θ K (nX5_isSame n) (gc_Pi P) 15 [(0, va_rf x0), (1, va_rf x1), (2, .int s0), (3, .int 0)] [] σ bc bs) : gc_G θ K (nX5_isSame n) (gc_Pi P) 12 [(0, va_rf x0), (1, va_rf x1)] [.int s0] σ bc bs := by
  refine gx_istore_n (L' := [(2, .int s0), (0, va_rf x0), (1, va_rf x1)]) h (Nat.le_of_ble_eq_true rfl) (by generalize x1 = z; cases z <;> rfl) dX5_isSame_12 ?_
  refine gx_iconst (v := 0) h dX5_isSame_13 (by decide) ?_
  refine gx_istore_n (L' := [(3, .int 0), (2, .int s0), (0, va_rf x0), (1, va_rf x1)]) h (Nat.le_of_ble_eq_true rfl) rfl dX5_isSame_14 ?_
  exact gx_sub [2, 3, 1, 0] rfl k
theorem bc_X5_isSame_15 {θ : gc_T} {K : gx_K} {P : Int32 → gc_S → Prop} {σ : gc_S} {x2 x3 : Int32} {x0 x1 : Option Nat} {n bc bs : Nat} (h : gc_K θ K (nX5_isSame n)) (k : ∃ a17_1 : Nat, x0 = some a17_1 ∧ gc_is σ a17_1 14 ∧ (((Int32.ofNat (gc_n σ a17_1)) ≤ x3 → gc_G θ K (nX5_isSame n) (gc_Pi P) 46 [(2, .int x2)] [] σ bc bs) ∧ (¬ (Int32.ofNat (gc_n σ a17_1)) ≤ x3 → ((x2 = 0 → gc_G θ K (nX5_isSame n) (gc_Pi P) 46 [(2, .int x2)] [] σ bc bs) ∧ (¬ x2 = 0 → gc_is σ a17_1 14 ∧ vp_in x3 (gc_n σ a17_1) ∧ ∃ a30_2 : Nat, x1 = some a30_2 ∧ gc_is σ a30_2 14 ∧ vp_in x3 (gc_n σ a30_2) ∧ (((gc_E σ a17_1 x3.toNatClampNeg) = (gc_E σ a30_2 x3.toNatClampNeg) → gc_G θ K (nX5_isSame n) (gc_Pi P) 15 [(0, va_rf x0), (1, va_rf x1), (2, .int 1), (3, .int (x3 + 1))] [] σ bc bs) ∧ (¬ (gc_E σ a17_1 x3.toNatClampNeg) = (gc_E σ a30_2 x3.toNatClampNeg) → gc_G θ K (nX5_isSame n) (gc_Pi P) 15 [(0, va_rf x0), (1, va_rf x1), (2, .int 0), (3, .int (x3 + 1))] [] σ bc bs))))))) : gc_G θ K (nX5_isSame n) (gc_Pi P) 15 [(0, va_rf x0), (1, va_rf x1), (2, .int x2), (3, .int x3)] [] σ bc bs := by
  refine gx_iload_n h 3 rfl dX5_isSame_15 ?_
  refine gx_aload_nq (r := x0) h 0 rfl dX5_isSame_16 ?_
  obtain ⟨a17_1, e17_1, k⟩ := k
  refine gc_alen14E (r := x0) h e17_1 k.1 dX5_isSame_17 ?_
  replace k := k.2
  refine gx_icmp_ge (tgt := 46) h (by decide) dX5_isSame_18 (fun c => ?_) (fun c => ?_)
  · replace k := k.1 c
    exact gx_sub [2] rfl k
  · replace k := k.2 c
    refine gx_iload_n h 2 rfl dX5_isSame_21 ?_
    refine gx_if_eq (tgt := 46) h (by decide) dX5_isSame_22 (fun c => ?_) (fun c => ?_)
    · replace k := k.1 c
      exact gx_sub [2] rfl k
    · replace k := k.2 c
      refine gx_aload_nq (r := x0) h 0 rfl dX5_isSame_25 ?_
      refine gx_iload_n h 3 rfl dX5_isSame_26 ?_
      refine gc_ialdE (r := x0) h e17_1 k.1 k.2.1 dX5_isSame_27 ?_
      replace k := k.2.2
      refine gx_aload_nq (r := x1) h 1 rfl dX5_isSame_28 ?_
      refine gx_iload_n h 3 rfl dX5_isSame_29 ?_
      obtain ⟨a30_2, e30_2, k⟩ := k
      refine gc_ialdE (r := x1) h e30_2 k.1 k.2.1 dX5_isSame_30 ?_
      replace k := k.2.2
      refine gx_icmp_ne (tgt := 38) h (by decide) dX5_isSame_31 (fun c => ?_) (fun c => ?_)
      · replace k := k.2 c
        refine gx_iconst (v := 0) h dX5_isSame_38 (by decide) ?_
        refine gx_istore_n (L' := [(2, .int 0), (0, va_rf x0), (1, va_rf x1), (3, .int x3)]) h (Nat.le_of_ble_eq_true rfl) (by generalize x1 = z; cases z <;> rfl) dX5_isSame_39 ?_
        refine gx_iinc (v := x3 + 1) (L' := [(3, .int (x3 + 1)), (2, .int 0), (0, va_rf x0), (1, va_rf x1)]) h 3 rfl rfl (Nat.le_of_ble_eq_true rfl) rfl dX5_isSame_40 ?_
        refine gx_goto (tgt := 15) h (by decide) dX5_isSame_43 ?_
        exact gx_sub [2, 3, 1, 0] rfl k
      · replace k := k.1 c
        refine gx_iconst (v := 1) h dX5_isSame_34 (by decide) ?_
        refine gx_goto (tgt := 39) h (by decide) dX5_isSame_35 ?_
        refine gx_istore_n (L' := [(2, .int 1), (0, va_rf x0), (1, va_rf x1), (3, .int x3)]) h (Nat.le_of_ble_eq_true rfl) (by generalize x1 = z; cases z <;> rfl) dX5_isSame_39 ?_
        refine gx_iinc (v := x3 + 1) (L' := [(3, .int (x3 + 1)), (2, .int 1), (0, va_rf x0), (1, va_rf x1)]) h 3 rfl rfl (Nat.le_of_ble_eq_true rfl) rfl dX5_isSame_40 ?_
        refine gx_goto (tgt := 15) h (by decide) dX5_isSame_43 ?_
        exact gx_sub [2, 3, 1, 0] rfl k
theorem bc_X5_isSame_46 {θ : gc_T} {K : gx_K} {P : Int32 → gc_S → Prop} {σ : gc_S} {x2 : Int32} {n bc bs : Nat} (h : gc_K θ K (nX5_isSame n)) (k : narrow .boolean (.int x2) = .int x2 ∧ P x2 σ) : gc_G θ K (nX5_isSame n) (gc_Pi P) 46 [(2, .int x2)] [] σ bc bs := by
  refine gx_iload_n h 0 rfl dX5_isSame_46 ?_
  exact gx_zret h rfl k.1 dX5_isSame_47 (⟨_, rfl, k.2⟩)
/-! X6.init -/
theorem ec_X6_init {θ : gc_T} {P : gc_S → Prop} {σ : gc_S} {n c s : Nat} {a0 : Nat} (body : ∀ K, gc_K θ K (nX6_init (n + 1) c s) → gc_G θ K (nX6_init (n + 1) c s) (gc_Pv P) 0 [(0, va_rf (some a0))] [] σ c s) : gx_C (gc_O θ) (nX6_init (n + 1) c s) [.ref a0] σ (gc_Pv P) :=
  gx_C.intro (gc_z_warm θ) rfl (Nat.le_of_ble_eq_true rfl) body
theorem bc_X6_init_0 {θ : gc_T} {K : gx_K} {P : gc_S → Prop} {σ : gc_S} {a0 n c s bc bs : Nat} (h : gc_K θ K (nX6_init (n + 1) c s)) (k : 1 ≤ bc ∧ 3 ≤ bs ∧ ∀ q5, q5 ∉ gc_d σ → gc_A θ q5 → ∀ σ5, σ5 = gc_new σ q5 12 0 → gx_C (gc_O θ) (nJ5_init n) (.ref q5 :: []) σ5 (gc_Pv (fun σ9 => gc_is σ9 a0 6 ∧ ∀ σ12, σ12 = gc_sR σ9 600 a0 (some q5) → ¬ (362 : Int32) < 0 ∧ (362 : Int32).toNatClampNeg ≤ 100000 ∧ 1 ≤ (bc - 1) ∧ (362 : Int32).toNatClampNeg ≤ (bs - 3) ∧ ∀ q19, q19 ∉ gc_d σ12 → gc_A θ q19 → ∀ σ19, σ19 = gc_new σ12 q19 14 (362 : Int32).toNatClampNeg → gc_is σ19 a0 6 ∧ ∀ σ21, σ21 = gc_sR σ19 601 a0 (some q19) → ¬ (362 : Int32) < 0 ∧ (362 : Int32).toNatClampNeg ≤ 100000 ∧ 1 ≤ ((bc - 1) - 1) ∧ (362 : Int32).toNatClampNeg ≤ ((bs - 3) - (362 : Int32).toNatClampNeg) ∧ ∀ q28, q28 ∉ gc_d σ21 → gc_A θ q28 → ∀ σ28, σ28 = gc_new σ21 q28 14 (362 : Int32).toNatClampNeg → gc_is σ28 a0 6 ∧ ∀ σ30, σ30 = gc_sR σ28 602 a0 (some q28) → 1 ≤ (((bc - 1) - 1) - 1) ∧ 3 ≤ (((bs - 3) - (362 : Int32).toNatClampNeg) - (362 : Int32).toNatClampNeg) ∧ ∀ q34, q34 ∉ gc_d σ30 → gc_A θ q34 → ∀ σ34, σ34 = gc_new σ30 q34 12 0 → gx_C (gc_O θ) (nJ5_init n) (.ref q34 :: []) σ34 (gc_Pv (fun σ38 => gc_is σ38 a0 6 ∧ ∀ σ41, σ41 = gc_sR σ38 607 a0 (some q34) → P σ41))))) : gc_G θ K (nX6_init (n + 1) c s) (gc_Pv P) 0 [(0, va_rf (some a0))] [] σ bc bs := by
  refine gx_aload_nq (r := some a0) h 0 rfl dX6_init_0 ?_
  refine gcc_X6_3 (n := n) (r := some a0) h rfl ⟨Nat.le_refl _, Nat.le_refl _⟩ rfl (Nat.le_of_ble_eq_true rfl) dX6_init_1 ?_
  refine gx_aload_nq (r := some a0) h 0 rfl dX6_init_4 ?_
  refine gc_obj (k := 12) (C := RJ5) (T := TJ5) (N := 3) rfl (by decide) rfl in_J5 tyJ5_ok nd_J5 h rfl q286 q287 q78 dX6_init_5 k.1 k.2.1 (fun q5 hq hA => ?_)
  generalize hz : gc_new σ q5 12 0 = σ5
  replace k := k.2.2 q5 hq hA σ5 hz.symm
  refine gx_dup h rfl dX6_init_8 ?_
  refine gcc_X6_11 (r := some q5)  h rfl ⟨Nat.le_refl _, Nat.le_refl _⟩ rfl (Nat.le_of_ble_eq_true rfl) dX6_init_9 (gx_C.mono k ?_)
  rintro _ σ9 ⟨rfl, k⟩
  refine ⟨rfl, ?_⟩
  refine gcp_X6_12 (v := some q5) h rfl rfl rfl k.1 dX6_init_12 ?_
  generalize hz : gc_sR σ9 600 a0 (some q5) = σ12
  replace k := k.2 σ12 hz.symm
  refine gx_aload_nq (r := some a0) h 0 rfl dX6_init_15 ?_
  refine gx_sipush (v := 362) h dX6_init_16 (by decide) ?_
  refine gc_newa (atype := .int) (k := 14) (t := 0) (ty := .int) (by decide) (by decide) rfl rfl rfl (by decide) q212 h k.1 k.2.1 dX6_init_19 k.2.2.1 k.2.2.2.1 (fun q19 hq hA => ?_)
  generalize hz : gc_new σ12 q19 14 (362 : Int32).toNatClampNeg = σ19
  replace k := k.2.2.2.2 q19 hq hA σ19 hz.symm
  refine gcp_X6_18 (v := some q19) h rfl rfl rfl k.1 dX6_init_21 ?_
  generalize hz : gc_sR σ19 601 a0 (some q19) = σ21
  replace k := k.2 σ21 hz.symm
  refine gx_aload_nq (r := some a0) h 0 rfl dX6_init_24 ?_
  refine gx_sipush (v := 362) h dX6_init_25 (by decide) ?_
  refine gc_newa (atype := .int) (k := 14) (t := 0) (ty := .int) (by decide) (by decide) rfl rfl rfl (by decide) q212 h k.1 k.2.1 dX6_init_28 k.2.2.1 k.2.2.2.1 (fun q28 hq hA => ?_)
  generalize hz : gc_new σ21 q28 14 (362 : Int32).toNatClampNeg = σ28
  replace k := k.2.2.2.2 q28 hq hA σ28 hz.symm
  refine gcp_X6_22 (v := some q28) h rfl rfl rfl k.1 dX6_init_30 ?_
  generalize hz : gc_sR σ28 602 a0 (some q28) = σ30
  replace k := k.2 σ30 hz.symm
  refine gx_aload_nq (r := some a0) h 0 rfl dX6_init_33 ?_
  refine gc_obj (k := 12) (C := RJ5) (T := TJ5) (N := 3) rfl (by decide) rfl in_J5 tyJ5_ok nd_J5 h rfl q286 q287 q78 dX6_init_34 k.1 k.2.1 (fun q34 hq hA => ?_)
  generalize hz : gc_new σ30 q34 12 0 = σ34
  replace k := k.2.2 q34 hq hA σ34 hz.symm
  refine gx_dup h rfl dX6_init_37 ?_
  refine gcc_X6_11 (r := some q34)  h rfl ⟨Nat.le_refl _, Nat.le_refl _⟩ rfl (Nat.le_of_ble_eq_true rfl) dX6_init_38 (gx_C.mono k ?_)
  rintro _ σ38 ⟨rfl, k⟩
  refine ⟨rfl, ?_⟩
  refine gcp_X6_25 (v := some q34) h rfl rfl rfl k.1 dX6_init_41 ?_
  generalize hz : gc_sR σ38 607 a0 (some q34) = σ41
  replace k := k.2 σ41 hz.symm
  exact gx_vret h rfl dX6_init_44 (⟨rfl, k⟩)
/-! X6.merge -/
theorem ec_X6_merge {θ : gc_T} {P : Option Nat → gc_S → Prop} {σ : gc_S} {n c s : Nat} {a0 : Nat} {x1 : Option Nat} {x2 : Option Nat} {x3 : Option Nat} (body : ∀ K, gc_K θ K (nX6_merge (n + 1) c s) → gc_G θ K (nX6_merge (n + 1) c s) (gc_Pr P) 0 [(0, va_rf (some a0)), (1, va_rf x1), (2, va_rf x2), (3, va_rf x3)] [] σ c s) : gx_C (gc_O θ) (nX6_merge (n + 1) c s) [.ref a0, va_rf x1, va_rf x2, va_rf x3] σ (gc_Pr P) := by
  refine gx_C.intro (gc_z_warm θ) rfl (by cases x1 <;>  cases x2 <;>  cases x3 <;> exact Nat.le_of_ble_eq_true rfl) (fun K h => ?_)
  have k := body K h
  cases x1 <;>  cases x2 <;>  cases x3 <;> exact k
theorem bc_X6_merge_0 {θ : gc_T} {K : gx_K} {P : Option Nat → gc_S → Prop} {σ : gc_S} {x1 x2 x3 : Option Nat} {a0 n c s bc bs : Nat} (h : gc_K θ K (nX6_merge (n + 1) c s)) (k : gc_is σ a0 6 ∧ ∀ σ2, σ2 = gc_sR σ 604 a0 x1 → gc_is σ2 a0 6 ∧ ∀ σ7, σ7 = gc_sR σ2 605 a0 x2 → gc_is σ7 a0 6 ∧ ∀ σ12, σ12 = gc_sR σ7 606 a0 x3 → gc_is σ12 a0 6 ∧ ∀ σ17, σ17 = gc_sI σ12 603 a0 0 → ∃ a21_1 : Nat, x1 = some a21_1 ∧ gc_is σ17 a21_1 7 ∧ ∃ a24_2 : Nat, gc_R σ17 700 a21_1 = some a24_2 ∧ gc_isN σ17 a24_2 ∧ ∃ a28_3 : Nat, x2 = some a28_3 ∧ gc_is σ17 a28_3 7 ∧ ∃ a31_4 : Nat, gc_R σ17 700 a28_3 = some a31_4 ∧ gc_isN σ17 a31_4 ∧ (((gc_I σ17 800 a24_2) = (gc_I σ17 800 a31_4) → gc_is σ17 a21_1 7 ∧ gc_isN σ17 a24_2 ∧ ∃ a45_5 : Nat, x3 = some a45_5 ∧ gc_is σ17 a45_5 7 ∧ ∃ a48_6 : Nat, gc_R σ17 700 a45_5 = some a48_6 ∧ gc_isN σ17 a48_6 ∧ (((gc_I σ17 800 a24_2) = (gc_I σ17 800 a48_6) → gc_is σ17 a0 6 ∧ ∃ a66_7 : Nat, gc_R σ17 607 a0 = some a66_7 ∧ gc_is σ17 a66_7 12 ∧ gx_C (gc_O θ) (nJ5_clear n) (.ref a66_7 :: []) σ17 (gc_Pv (fun σ66 => gc_is σ66 a0 6 ∧ ∀ σ71, σ71 = gc_sI σ66 608 a0 0 → gc_is σ71 a21_1 7 ∧ ∃ a79_8 : Nat, gc_R σ71 700 a21_1 = some a79_8 ∧ gc_isN σ71 a79_8 ∧ ∃ c83 s83 : Nat, (c83 ≤ bc ∧ s83 ≤ bs) ∧ gc_is σ71 a0 6 ∧ gx_C (gc_O θ) (nX6_node n c83 s83) (.ref a0 :: [.int (gc_I σ71 800 a79_8), .int 0]) σ71 (gc_Pr (fun r83 σ83 => gc_is σ83 a0 6 ∧ (((gc_I σ83 608 a0) = 0 → gc_G θ K (nX6_merge (n + 1) c s) (gc_Pr P) 101 [(0, va_rf (some a0)), (4, va_rf r83)] [] σ83 (bc - c83) (bs - s83)) ∧ (¬ (gc_I σ83 608 a0) = 0 → gc_is σ83 a0 6 ∧ gx_C (gc_O θ) (nX6_clash n) (.ref a0 :: [.int (-1), .int 5]) σ83 (gc_Pv (fun σ98 => gc_G θ K (nX6_merge (n + 1) c s) (gc_Pr P) 101 [(0, va_rf (some a0)), (4, va_rf r83)] [] σ98 (bc - c83) (bs - s83)))))))))) ∧ (¬ (gc_I σ17 800 a24_2) = (gc_I σ17 800 a48_6) → gc_G θ K (nX6_merge (n + 1) c s) (gc_Pr P) 54 [(0, va_rf (some a0))] [] σ17 bc bs))) ∧ (¬ (gc_I σ17 800 a24_2) = (gc_I σ17 800 a31_4) → gc_G θ K (nX6_merge (n + 1) c s) (gc_Pr P) 54 [(0, va_rf (some a0))] [] σ17 bc bs))) : gc_G θ K (nX6_merge (n + 1) c s) (gc_Pr P) 0 [(0, va_rf (some a0)), (1, va_rf x1), (2, va_rf x2), (3, va_rf x3)] [] σ bc bs := by
  refine gx_aload_nq (r := some a0) h 0 rfl dX6_merge_0 ?_
  refine gx_aload_nq (r := x1) h 1 rfl dX6_merge_1 ?_
  refine gcp_X6_83 (v := x1) h rfl rfl k.1 dX6_merge_2 ?_
  generalize hz : gc_sR σ 604 a0 x1 = σ2
  replace k := k.2 σ2 hz.symm
  refine gx_aload_nq (r := some a0) h 0 rfl dX6_merge_5 ?_
  refine gx_aload_nq (r := x2) h 2 rfl dX6_merge_6 ?_
  refine gcp_X6_87 (v := x2) h rfl rfl k.1 dX6_merge_7 ?_
  generalize hz : gc_sR σ2 605 a0 x2 = σ7
  replace k := k.2 σ7 hz.symm
  refine gx_aload_nq (r := some a0) h 0 rfl dX6_merge_10 ?_
  refine gx_aload_nq (r := x3) h 3 rfl dX6_merge_11 ?_
  refine gcp_X6_90 (v := x3) h rfl rfl k.1 dX6_merge_12 ?_
  generalize hz : gc_sR σ7 606 a0 x3 = σ12
  replace k := k.2 σ12 hz.symm
  refine gx_aload_nq (r := some a0) h 0 rfl dX6_merge_15 ?_
  refine gx_iconst (v := 0) h dX6_merge_16 (by decide) ?_
  refine gcp_X6_28 (v := 0) h rfl rfl k.1 dX6_merge_17 ?_
  generalize hz : gc_sI σ12 603 a0 0 = σ17
  replace k := k.2 σ17 hz.symm
  refine gx_aload_nq (r := x1) h 1 rfl dX6_merge_20 ?_
  obtain ⟨a21_1, e21_1, k⟩ := k
  refine gcg_X6_93 h rfl e21_1 k.1 dX6_merge_21 ?_
  replace k := k.2
  obtain ⟨a24_2, e24_2, k⟩ := k
  refine gcg_X6_49 h rfl e24_2 k.1 dX6_merge_24 ?_
  replace k := k.2
  refine gx_aload_nq (r := x2) h 2 rfl dX6_merge_27 ?_
  obtain ⟨a28_3, e28_3, k⟩ := k
  refine gcg_X6_93 h rfl e28_3 k.1 dX6_merge_28 ?_
  replace k := k.2
  obtain ⟨a31_4, e31_4, k⟩ := k
  refine gcg_X6_49 h rfl e31_4 k.1 dX6_merge_31 ?_
  replace k := k.2
  refine gx_icmp_ne (tgt := 54) h (by decide) dX6_merge_34 (fun c => ?_) (fun c => ?_)
  · replace k := k.2 c
    exact gx_sub [0] rfl k
  · replace k := k.1 c
    refine gx_aload_nq (r := x1) h 1 rfl dX6_merge_37 ?_
    refine gcg_X6_93 h rfl e21_1 k.1 dX6_merge_38 ?_
    replace k := k.2
    refine gcg_X6_49 h rfl e24_2 k.1 dX6_merge_41 ?_
    replace k := k.2
    refine gx_aload_nq (r := x3) h 3 rfl dX6_merge_44 ?_
    obtain ⟨a45_5, e45_5, k⟩ := k
    refine gcg_X6_93 h rfl e45_5 k.1 dX6_merge_45 ?_
    replace k := k.2
    obtain ⟨a48_6, e48_6, k⟩ := k
    refine gcg_X6_49 h rfl e48_6 k.1 dX6_merge_48 ?_
    replace k := k.2
    refine gx_icmp_eq (tgt := 62) h (by decide) dX6_merge_51 (fun c => ?_) (fun c => ?_)
    · replace k := k.1 c
      refine gx_aload_nq (r := some a0) h 0 rfl dX6_merge_62 ?_
      refine gcg_X6_25 h rfl rfl k.1 dX6_merge_63 ?_
      replace k := k.2
      obtain ⟨a66_7, e66_7, k⟩ := k
      refine gcc_X6_99 (r := gc_R σ17 607 a0)  h rfl ⟨Nat.le_refl _, Nat.le_refl _⟩ e66_7 k.1 (Nat.le_of_ble_eq_true rfl) dX6_merge_66 (gx_C.mono k.2 ?_)
      rintro _ σ66 ⟨rfl, k⟩
      refine ⟨rfl, ?_⟩
      refine gx_aload_nq (r := some a0) h 0 rfl dX6_merge_69 ?_
      refine gx_iconst (v := 0) h dX6_merge_70 (by decide) ?_
      refine gcp_X6_102 (v := 0) h rfl rfl k.1 rfl rfl dX6_merge_71 ?_
      generalize hz : gc_sI σ66 608 a0 0 = σ71
      replace k := k.2 σ71 hz.symm
      refine gx_aload_nq (r := some a0) h 0 rfl dX6_merge_74 ?_
      refine gx_aload_nq (r := x1) h 1 rfl dX6_merge_75 ?_
      refine gcg_X6_93 h rfl e21_1 k.1 dX6_merge_76 ?_
      replace k := k.2
      obtain ⟨a79_8, e79_8, k⟩ := k
      refine gcg_X6_49 h rfl e79_8 k.1 dX6_merge_79 ?_
      replace k := k.2
      refine gx_iconst (v := 0) h dX6_merge_82 (by decide) ?_
      obtain ⟨c83, s83, hb83, k⟩ := k
      refine gcc_X6_106 (r := some a0) (a0 := gc_I σ71 800 a79_8) (a1 := 0) h rfl ⟨Nat.le_refl _, Nat.le_refl _⟩ hb83 rfl k.1 (Nat.le_of_ble_eq_true rfl) dX6_merge_83 (gx_C.mono k.2 ?_)
      rintro _ σ83 ⟨r83, rfl, k⟩
      refine ⟨r83, rfl, ?_⟩
      refine gx_astoreq (r := r83) (L' := [(4, va_rf r83), (0, va_rf (some a0)), (1, va_rf x1), (2, va_rf x2), (3, va_rf x3)]) h (Nat.le_of_ble_eq_true rfl) (by generalize x3 = z; cases z <;> rfl) dX6_merge_86 ?_
      refine gx_aload_nq (r := some a0) h 1 rfl dX6_merge_88 ?_
      refine gcg_X6_102 h rfl rfl k.1 dX6_merge_89 ?_
      replace k := k.2
      refine gx_if_eq (tgt := 101) h (by decide) dX6_merge_92 (fun c => ?_) (fun c => ?_)
      · replace k := k.1 c
        exact gx_sub [1, 0] rfl k
      · replace k := k.2 c
        refine gx_aload_nq (r := some a0) h 1 rfl dX6_merge_95 ?_
        refine gx_iconst (v := (-1)) h dX6_merge_96 (by decide) ?_
        refine gx_iconst (v := 5) h dX6_merge_97 (by decide) ?_
        refine gcc_X6_32 (r := some a0) (a0 := (-1)) (a1 := 5) h rfl ⟨Nat.le_refl _, Nat.le_refl _⟩ rfl k.1 (Nat.le_of_ble_eq_true rfl) dX6_merge_98 (gx_C.mono k.2 ?_)
        rintro _ σ98 ⟨rfl, k⟩
        refine ⟨rfl, ?_⟩
        exact gx_sub [1, 0] rfl k
    · replace k := k.2 c
      exact gx_sub [0] rfl k
theorem bc_X6_merge_54 {θ : gc_T} {K : gx_K} {P : Option Nat → gc_S → Prop} {σ : gc_S} {a0 n c s bc bs : Nat} (h : gc_K θ K (nX6_merge (n + 1) c s)) (k : gc_is σ a0 6 ∧ gx_C (gc_O θ) (nX6_clash n) (.ref a0 :: [.int (-1), .int 4]) σ (gc_Pv (fun σ57 => P none σ57))) : gc_G θ K (nX6_merge (n + 1) c s) (gc_Pr P) 54 [(0, va_rf (some a0))] [] σ bc bs := by
  refine gx_aload_nq (r := some a0) h 0 rfl dX6_merge_54 ?_
  refine gx_iconst (v := (-1)) h dX6_merge_55 (by decide) ?_
  refine gx_iconst (v := 4) h dX6_merge_56 (by decide) ?_
  refine gcc_X6_32 (r := some a0) (a0 := (-1)) (a1 := 4) h rfl ⟨Nat.le_refl _, Nat.le_refl _⟩ rfl k.1 (Nat.le_of_ble_eq_true rfl) dX6_merge_57 (gx_C.mono k.2 ?_)
  rintro _ σ57 ⟨rfl, k⟩
  refine ⟨rfl, ?_⟩
  refine gx_null h dX6_merge_60 ?_
  exact gx_aret (r := none) h rfl (Or.inl ⟨_, rfl⟩) dX6_merge_61 (⟨_, rfl, k⟩)
theorem bc_X6_merge_101 {θ : gc_T} {K : gx_K} {P : Option Nat → gc_S → Prop} {σ : gc_S} {x4 : Option Nat} {a0 n c s bc bs : Nat} (h : gc_K θ K (nX6_merge (n + 1) c s)) (k : ∃ c102 s102 : Nat, (c102 ≤ bc ∧ s102 ≤ bs) ∧ gc_is σ a0 6 ∧ gx_C (gc_O θ) (nX6_tellAll n c102 s102) (.ref a0 :: []) σ (gc_Pv (fun σ102 => gc_is σ102 a0 6 ∧ (((gc_I σ102 608 a0) = 0 → 1 ≤ (bc - c102) ∧ 5 ≤ (bs - s102) ∧ ∀ q116, q116 ∉ gc_d σ102 → gc_A θ q116 → ∀ σ116, σ116 = gc_new σ102 q116 7 0 → ∃ c122 s122 : Nat, (c122 ≤ ((bc - c102) - 1) ∧ s122 ≤ ((bs - s102) - 5)) ∧ gx_C (gc_O θ) (nX8_init n c122 s122) (.ref q116 :: [va_rf x4]) σ116 (gc_Pv (fun σ122 => P (some q116) σ122))) ∧ (¬ (gc_I σ102 608 a0) = 0 → P none σ102))))) : gc_G θ K (nX6_merge (n + 1) c s) (gc_Pr P) 101 [(0, va_rf (some a0)), (4, va_rf x4)] [] σ bc bs := by
  refine gx_aload_nq (r := some a0) h 0 rfl dX6_merge_101 ?_
  obtain ⟨c102, s102, hb102, k⟩ := k
  refine gcc_X6_110 (r := some a0)  h rfl ⟨Nat.le_refl _, Nat.le_refl _⟩ hb102 rfl k.1 (Nat.le_of_ble_eq_true rfl) dX6_merge_102 (gx_C.mono k.2 ?_)
  rintro _ σ102 ⟨rfl, k⟩
  refine ⟨rfl, ?_⟩
  refine gx_aload_nq (r := some a0) h 0 rfl dX6_merge_105 ?_
  refine gcg_X6_102 h rfl rfl k.1 dX6_merge_106 ?_
  replace k := k.2
  refine gx_if_eq (tgt := 116) h (by decide) dX6_merge_109 (fun c => ?_) (fun c => ?_)
  · replace k := k.1 c
    refine gc_obj (k := 7) (C := RX8) (T := TX8) (N := 5) rfl (by decide) rfl in_X8 tyX8_ok nd_X8 h rfl q1236 q430 q80 dX6_merge_116 k.1 k.2.1 (fun q116 hq hA => ?_)
    generalize hz : gc_new σ102 q116 7 0 = σ116
    replace k := k.2.2 q116 hq hA σ116 hz.symm
    refine gx_dup h rfl dX6_merge_119 ?_
    refine gx_aloadq (r := x4) h 1 rfl dX6_merge_120 ?_
    obtain ⟨c122, s122, hb122, k⟩ := k
    refine gcc_X6_113 (r := some q116) (a0 := x4) h rfl ⟨Nat.le_refl _, Nat.le_refl _⟩ hb122 rfl (Nat.le_of_ble_eq_true rfl) dX6_merge_122 (gx_C.mono k ?_)
    rintro _ σ122 ⟨rfl, k⟩
    refine ⟨rfl, ?_⟩
    exact gx_aret (r := some q116) h rfl (Or.inl ⟨_, rfl⟩) dX6_merge_125 (⟨_, rfl, k⟩)
  · replace k := k.2 c
    refine gx_null h dX6_merge_112 ?_
    refine gx_goto (tgt := 125) h (by decide) dX6_merge_113 ?_
    exact gx_aret (r := none) h rfl (Or.inl ⟨_, rfl⟩) dX6_merge_125 (⟨_, rfl, k⟩)
/-! X6.clash -/
theorem ec_X6_clash {θ : gc_T} {P : gc_S → Prop} {σ : gc_S} {n : Nat} {a0 : Nat} {x1 : Int32} {x2 : Int32} (body : ∀ K, gc_K θ K (nX6_clash n) → gc_G θ K (nX6_clash n) (gc_Pv P) 0 [(0, va_rf (some a0)), (1, .int x1), (2, .int x2)] [] σ 0 0) : gx_C (gc_O θ) (nX6_clash n) [.ref a0, .int x1, .int x2] σ (gc_Pv P) :=
  gx_C.intro (gc_z_warm θ) rfl (Nat.le_of_ble_eq_true rfl) body
theorem bc_X6_clash_0 {θ : gc_T} {K : gx_K} {P : gc_S → Prop} {σ : gc_S} {x1 x2 : Int32} {a0 n bc bs : Nat} (h : gc_K θ K (nX6_clash n)) (k : gc_is σ a0 6 ∧ gc_is σ a0 6 ∧ ∃ a9_1 : Nat, gc_R σ 601 a0 = some a9_1 ∧ gc_is σ a9_1 14 ∧ vp_in (gc_I σ 603 a0) (gc_n σ a9_1) ∧ ∀ σ9, σ9 = gc_sE σ a9_1 (gc_I σ 603 a0).toNatClampNeg x1 → gc_is σ9 a0 6 ∧ gc_is σ9 a0 6 ∧ ∃ a19_2 : Nat, gc_R σ9 602 a0 = some a19_2 ∧ gc_is σ9 a19_2 14 ∧ vp_in (gc_I σ9 603 a0) (gc_n σ9 a19_2) ∧ ∀ σ19, σ19 = gc_sE σ9 a19_2 (gc_I σ9 603 a0).toNatClampNeg x2 → gc_is σ19 a0 6 ∧ gc_is σ19 a0 6 ∧ ∀ σ27, σ27 = gc_sI σ19 603 a0 ((gc_I σ19 603 a0) + 1) → P σ27) : gc_G θ K (nX6_clash n) (gc_Pv P) 0 [(0, va_rf (some a0)), (1, .int x1), (2, .int x2)] [] σ bc bs := by
  refine gx_aload_nq (r := some a0) h 0 rfl dX6_clash_0 ?_
  refine gcg_X6_18 h rfl rfl k.1 dX6_clash_1 ?_
  replace k := k.2
  refine gx_aload_nq (r := some a0) h 0 rfl dX6_clash_4 ?_
  refine gcg_X6_28 h rfl rfl k.1 dX6_clash_5 ?_
  replace k := k.2
  refine gx_iload_n h 1 rfl dX6_clash_8 ?_
  obtain ⟨a9_1, e9_1, k⟩ := k
  refine gc_iastE (r := gc_R σ 601 a0) h e9_1 k.1 k.2.1 dX6_clash_9 ?_
  generalize hz : gc_sE σ a9_1 (gc_I σ 603 a0).toNatClampNeg x1 = σ9
  replace k := k.2.2 σ9 hz.symm
  refine gx_aload_nq (r := some a0) h 0 rfl dX6_clash_10 ?_
  refine gcg_X6_22 h rfl rfl k.1 dX6_clash_11 ?_
  replace k := k.2
  refine gx_aload_nq (r := some a0) h 0 rfl dX6_clash_14 ?_
  refine gcg_X6_28 h rfl rfl k.1 dX6_clash_15 ?_
  replace k := k.2
  refine gx_iload_n h 2 rfl dX6_clash_18 ?_
  obtain ⟨a19_2, e19_2, k⟩ := k
  refine gc_iastE (r := gc_R σ9 602 a0) h e19_2 k.1 k.2.1 dX6_clash_19 ?_
  generalize hz : gc_sE σ9 a19_2 (gc_I σ9 603 a0).toNatClampNeg x2 = σ19
  replace k := k.2.2 σ19 hz.symm
  refine gx_aload_nq (r := some a0) h 0 rfl dX6_clash_20 ?_
  refine gx_dup h rfl dX6_clash_21 ?_
  refine gcg_X6_28 h rfl rfl k.1 dX6_clash_22 ?_
  replace k := k.2
  refine gx_iconst (v := 1) h dX6_clash_25 (by decide) ?_
  refine gx_iadd h dX6_clash_26 ?_
  refine gcp_X6_28 (v := (gc_I σ19 603 a0) + 1) h rfl rfl k.1 dX6_clash_27 ?_
  generalize hz : gc_sI σ19 603 a0 ((gc_I σ19 603 a0) + 1) = σ27
  replace k := k.2 σ27 hz.symm
  exact gx_vret h rfl dX6_clash_30 (⟨rfl, k⟩)
/-! X6.node -/
theorem ec_X6_node {θ : gc_T} {P : Option Nat → gc_S → Prop} {σ : gc_S} {n c s : Nat} {a0 : Nat} {x1 : Int32} {x2 : Int32} (body : ∀ K, gc_K θ K (nX6_node (n + 1) c s) → gc_G θ K (nX6_node (n + 1) c s) (gc_Pr P) 0 [(0, va_rf (some a0)), (1, .int x1), (2, .int x2)] [] σ c s) : gx_C (gc_O θ) (nX6_node (n + 1) c s) [.ref a0, .int x1, .int x2] σ (gc_Pr P) :=
  gx_C.intro (gc_z_warm θ) rfl (Nat.le_of_ble_eq_true rfl) body
theorem bc_X6_node_0 {θ : gc_T} {K : gx_K} {P : Option Nat → gc_S → Prop} {σ : gc_S} {x1 x2 : Int32} {a0 n c s bc bs : Nat} (h : gc_K θ K (nX6_node (n + 1) c s)) (k : gc_is σ a0 6 ∧ ∃ a5_1 : Nat, gc_R σ 604 a0 = some a5_1 ∧ gc_is σ a5_1 7 ∧ gx_C (gc_O θ) (nX8_find n) (.ref a5_1 :: [.int x1]) σ (gc_Pr (fun r5 σ5 => gc_is σ5 a0 6 ∧ ∃ a14_2 : Nat, gc_R σ5 605 a0 = some a14_2 ∧ gc_is σ5 a14_2 7 ∧ gx_C (gc_O θ) (nX8_find n) (.ref a14_2 :: [.int x1]) σ5 (gc_Pr (fun r14 σ14 => gc_is σ14 a0 6 ∧ ∃ a24_3 : Nat, gc_R σ14 606 a0 = some a24_3 ∧ gc_is σ14 a24_3 7 ∧ gx_C (gc_O θ) (nX8_find n) (.ref a24_3 :: [.int x1]) σ14 (gc_Pr (fun r24 σ24 => ((r14 = none → ((r24 = none → gc_G θ K (nX6_node (n + 1) c s) (gc_Pr P) 57 [(0, va_rf (some a0)), (1, .int x1), (2, .int x2), (3, va_rf r5), (4, va_rf r14), (5, va_rf r24)] [] σ24 bc bs) ∧ (¬ r24 = none → gc_G θ K (nX6_node (n + 1) c s) (gc_Pr P) 39 [(0, va_rf (some a0)), (1, .int x1), (2, .int x2), (3, va_rf r5), (4, va_rf r14), (5, va_rf r24)] [] σ24 bc bs))) ∧ (¬ r14 = none → gc_G θ K (nX6_node (n + 1) c s) (gc_Pr P) 39 [(0, va_rf (some a0)), (1, .int x1), (2, .int x2), (3, va_rf r5), (4, va_rf r14), (5, va_rf r24)] [] σ24 bc bs))))))))) : gc_G θ K (nX6_node (n + 1) c s) (gc_Pr P) 0 [(0, va_rf (some a0)), (1, .int x1), (2, .int x2)] [] σ bc bs := by
  refine gx_aload_nq (r := some a0) h 0 rfl dX6_node_0 ?_
  refine gcg_X6_83 h rfl rfl k.1 dX6_node_1 ?_
  replace k := k.2
  refine gx_iload_n h 1 rfl dX6_node_4 ?_
  obtain ⟨a5_1, e5_1, k⟩ := k
  refine gcc_X6_116 (r := gc_R σ 604 a0) (a0 := x1) h rfl ⟨Nat.le_refl _, Nat.le_refl _⟩ e5_1 k.1 (Nat.le_of_ble_eq_true rfl) dX6_node_5 (gx_C.mono k.2 ?_)
  rintro _ σ5 ⟨r5, rfl, k⟩
  refine ⟨r5, rfl, ?_⟩
  refine gx_astore_nq (r := r5) (L' := [(3, va_rf r5), (0, va_rf (some a0)), (1, .int x1), (2, .int x2)]) h (Nat.le_of_ble_eq_true rfl) rfl dX6_node_8 ?_
  refine gx_aload_nq (r := some a0) h 1 rfl dX6_node_9 ?_
  refine gcg_X6_87 h rfl rfl k.1 dX6_node_10 ?_
  replace k := k.2
  refine gx_iload_n h 2 rfl dX6_node_13 ?_
  obtain ⟨a14_2, e14_2, k⟩ := k
  refine gcc_X6_116 (r := gc_R σ5 605 a0) (a0 := x1) h rfl ⟨Nat.le_refl _, Nat.le_refl _⟩ e14_2 k.1 (Nat.le_of_ble_eq_true rfl) dX6_node_14 (gx_C.mono k.2 ?_)
  rintro _ σ14 ⟨r14, rfl, k⟩
  refine ⟨r14, rfl, ?_⟩
  refine gx_astoreq (r := r14) (L' := [(4, va_rf r14), (3, va_rf r5), (0, va_rf (some a0)), (1, .int x1), (2, .int x2)]) h (Nat.le_of_ble_eq_true rfl) (by generalize r5 = z; cases z <;> rfl) dX6_node_17 ?_
  refine gx_aload_nq (r := some a0) h 2 rfl dX6_node_19 ?_
  refine gcg_X6_90 h rfl rfl k.1 dX6_node_20 ?_
  replace k := k.2
  refine gx_iload_n h 3 rfl dX6_node_23 ?_
  obtain ⟨a24_3, e24_3, k⟩ := k
  refine gcc_X6_116 (r := gc_R σ14 606 a0) (a0 := x1) h rfl ⟨Nat.le_refl _, Nat.le_refl _⟩ e24_3 k.1 (Nat.le_of_ble_eq_true rfl) dX6_node_24 (gx_C.mono k.2 ?_)
  rintro _ σ24 ⟨r24, rfl, k⟩
  refine ⟨r24, rfl, ?_⟩
  refine gx_astoreq (r := r24) (L' := [(5, va_rf r24), (4, va_rf r14), (3, va_rf r5), (0, va_rf (some a0)), (1, .int x1), (2, .int x2)]) h (Nat.le_of_ble_eq_true rfl) (by generalize r14 = z; cases z <;> rfl) dX6_node_27 ?_
  refine gx_aloadq (r := r14) h 1 rfl dX6_node_29 ?_
  refine gx_ifnonnull (r := r14) (tgt := 39) h (by decide) dX6_node_31 (fun c => ?_) (fun c => ?_)
  · replace k := k.2 c
    exact gx_sub [3, 4, 5, 2, 1, 0] rfl k
  · replace k := k.1 c
    refine gx_aloadq (r := r24) h 0 rfl dX6_node_34 ?_
    refine gx_ifnull (r := r24) (tgt := 57) h (by decide) dX6_node_36 (fun c => ?_) (fun c => ?_)
    · replace k := k.1 c
      exact gx_sub [3, 4, 5, 2, 1, 0] rfl k
    · replace k := k.2 c
      exact gx_sub [3, 4, 5, 2, 1, 0] rfl k
theorem bc_X6_node_39 {θ : gc_T} {K : gx_K} {P : Option Nat → gc_S → Prop} {σ : gc_S} {x1 x2 : Int32} {x3 x4 x5 : Option Nat} {a0 n c s bc bs : Nat} (h : gc_K θ K (nX6_node (n + 1) c s)) (k : ((x2 = 12 → gc_G θ K (nX6_node (n + 1) c s) (gc_Pr P) 57 [(0, va_rf (some a0)), (1, .int x1), (2, .int x2), (3, va_rf x3), (4, va_rf x4), (5, va_rf x5)] [] σ bc bs) ∧ (¬ x2 = 12 → gc_is σ a0 6 ∧ ∃ a49_1 : Nat, gc_R σ 607 a0 = some a49_1 ∧ gc_is σ a49_1 12 ∧ gx_C (gc_O θ) (nJ5_size n) (.ref a49_1 :: []) σ (gc_Pi (fun r49 σ49 => ((r49 = 30 → gc_G θ K (nX6_node (n + 1) c s) (gc_Pr P) 57 [(0, va_rf (some a0)), (1, .int x1), (2, .int x2), (3, va_rf x3), (4, va_rf x4), (5, va_rf x5)] [] σ49 bc bs) ∧ (¬ r49 = 30 → gc_G θ K (nX6_node (n + 1) c s) (gc_Pr P) 62 [(0, va_rf (some a0)), (1, .int x1), (2, .int x2), (3, va_rf x3), (4, va_rf x4), (5, va_rf x5)] [] σ49 bc bs))))))) : gc_G θ K (nX6_node (n + 1) c s) (gc_Pr P) 39 [(0, va_rf (some a0)), (1, .int x1), (2, .int x2), (3, va_rf x3), (4, va_rf x4), (5, va_rf x5)] [] σ bc bs := by
  refine gx_iload_n h 2 rfl dX6_node_39 ?_
  refine gx_bipush (v := 12) h dX6_node_40 (by decide) ?_
  refine gx_icmp_eq (tgt := 57) h (by decide) dX6_node_42 (fun c => ?_) (fun c => ?_)
  · replace k := k.1 c
    exact k
  · replace k := k.2 c
    refine gx_aload_nq (r := some a0) h 0 rfl dX6_node_45 ?_
    refine gcg_X6_25 h rfl rfl k.1 dX6_node_46 ?_
    replace k := k.2
    obtain ⟨a49_1, e49_1, k⟩ := k
    refine gcc_X6_41 (r := gc_R σ 607 a0)  h rfl ⟨Nat.le_refl _, Nat.le_refl _⟩ e49_1 k.1 (Nat.le_of_ble_eq_true rfl) dX6_node_49 (gx_C.mono k.2 ?_)
    rintro _ σ49 ⟨r49, rfl, k⟩
    refine ⟨r49, rfl, ?_⟩
    refine gx_bipush (v := 30) h dX6_node_52 (by decide) ?_
    refine gx_icmp_ne (tgt := 62) h (by decide) dX6_node_54 (fun c => ?_) (fun c => ?_)
    · replace k := k.2 c
      exact k
    · replace k := k.1 c
      exact k
theorem bc_X6_node_57 {θ : gc_T} {K : gx_K} {P : Option Nat → gc_S → Prop} {σ : gc_S} {x1 x2 : Int32} {x3 x4 x5 : Option Nat} {a0 n c s bc bs : Nat} (h : gc_K θ K (nX6_node (n + 1) c s)) (k : gc_is σ a0 6 ∧ ∀ σ59, σ59 = gc_sI σ 608 a0 1 → gc_G θ K (nX6_node (n + 1) c s) (gc_Pr P) 62 [(0, va_rf (some a0)), (1, .int x1), (2, .int x2), (3, va_rf x3), (4, va_rf x4), (5, va_rf x5)] [] σ59 bc bs) : gc_G θ K (nX6_node (n + 1) c s) (gc_Pr P) 57 [(0, va_rf (some a0)), (1, .int x1), (2, .int x2), (3, va_rf x3), (4, va_rf x4), (5, va_rf x5)] [] σ bc bs := by
  refine gx_aload_nq (r := some a0) h 0 rfl dX6_node_57 ?_
  refine gx_iconst (v := 1) h dX6_node_58 (by decide) ?_
  refine gcp_X6_102 (v := 1) h rfl rfl k.1 rfl rfl dX6_node_59 ?_
  generalize hz : gc_sI σ 608 a0 1 = σ59
  replace k := k.2 σ59 hz.symm
  exact k
theorem bc_X6_node_62 {θ : gc_T} {K : gx_K} {P : Option Nat → gc_S → Prop} {σ : gc_S} {x1 x2 : Int32} {x3 x4 x5 : Option Nat} {a0 n c s bc bs : Nat} (h : gc_K θ K (nX6_node (n + 1) c s)) (k : gc_G θ K (nX6_node (n + 1) c s) (gc_Pr P) 65 [(0, va_rf (some a0)), (1, .int x1), (2, .int x2), (3, va_rf x3), (4, va_rf x4), (5, va_rf x5), (6, .int 0)] [] σ bc bs) : gc_G θ K (nX6_node (n + 1) c s) (gc_Pr P) 62 [(0, va_rf (some a0)), (1, .int x1), (2, .int x2), (3, va_rf x3), (4, va_rf x4), (5, va_rf x5)] [] σ bc bs := by
  refine gx_iconst (v := 0) h dX6_node_62 (by decide) ?_
  refine gx_istore (L' := [(6, .int 0), (0, va_rf (some a0)), (1, .int x1), (2, .int x2), (3, va_rf x3), (4, va_rf x4), (5, va_rf x5)]) h (Nat.le_of_ble_eq_true rfl) (by generalize x5 = z; cases z <;> rfl) dX6_node_63 ?_
  exact gx_sub [1, 2, 3, 4, 5, 6, 0] rfl k
theorem bc_X6_node_65 {θ : gc_T} {K : gx_K} {P : Option Nat → gc_S → Prop} {σ : gc_S} {x1 x2 x6 : Int32} {x3 x4 x5 : Option Nat} {a0 n c s bc bs : Nat} (h : gc_K θ K (nX6_node (n + 1) c s)) (k : gc_is σ a0 6 ∧ ∃ a71_1 : Nat, gc_R σ 607 a0 = some a71_1 ∧ gc_is σ a71_1 12 ∧ gx_C (gc_O θ) (nJ5_size n) (.ref a71_1 :: []) σ (gc_Pi (fun r71 σ71 => ((r71 ≤ x6 → gc_G θ K (nX6_node (n + 1) c s) (gc_Pr P) 118 [(0, va_rf (some a0)), (1, .int x1), (2, .int x2), (3, va_rf x3), (4, va_rf x4), (5, va_rf x5)] [] σ71 bc bs) ∧ (¬ r71 ≤ x6 → gc_is σ71 a0 6 ∧ (((gc_I σ71 608 a0) = 0 → gc_is σ71 a0 6 ∧ ∃ a91_2 : Nat, gc_R σ71 607 a0 = some a91_2 ∧ gc_is σ71 a91_2 12 ∧ gx_C (gc_O θ) (nJ5_get n) (.ref a91_2 :: [.int x6]) σ71 (gc_Pr (fun r91 σ91 => (∀ a, r91 = some a → gc_isN σ91 a) ∧ ∃ a97_3 : Nat, r91 = some a97_3 ∧ gc_isN σ91 a97_3 ∧ (((gc_I σ91 800 a97_3) = x1 → gc_is σ91 a0 6 ∧ ∀ σ109, σ109 = gc_sI σ91 608 a0 1 → gc_G θ K (nX6_node (n + 1) c s) (gc_Pr P) 65 [(0, va_rf (some a0)), (1, .int x1), (2, .int x2), (3, va_rf x3), (4, va_rf x4), (5, va_rf x5), (6, .int (x6 + 1))] [] σ109 bc bs) ∧ (¬ (gc_I σ91 800 a97_3) = x1 → gc_is σ91 a0 6 ∧ ∀ σ109, σ109 = gc_sI σ91 608 a0 0 → gc_G θ K (nX6_node (n + 1) c s) (gc_Pr P) 65 [(0, va_rf (some a0)), (1, .int x1), (2, .int x2), (3, va_rf x3), (4, va_rf x4), (5, va_rf x5), (6, .int (x6 + 1))] [] σ109 bc bs))))) ∧ (¬ (gc_I σ71 608 a0) = 0 → gc_G θ K (nX6_node (n + 1) c s) (gc_Pr P) 118 [(0, va_rf (some a0)), (1, .int x1), (2, .int x2), (3, va_rf x3), (4, va_rf x4), (5, va_rf x5)] [] σ71 bc bs))))))) : gc_G θ K (nX6_node (n + 1) c s) (gc_Pr P) 65 [(0, va_rf (some a0)), (1, .int x1), (2, .int x2), (3, va_rf x3), (4, va_rf x4), (5, va_rf x5), (6, .int x6)] [] σ bc bs := by
  refine gx_iload h 6 rfl dX6_node_65 ?_
  refine gx_aload_nq (r := some a0) h 0 rfl dX6_node_67 ?_
  refine gcg_X6_25 h rfl rfl k.1 dX6_node_68 ?_
  replace k := k.2
  obtain ⟨a71_1, e71_1, k⟩ := k
  refine gcc_X6_41 (r := gc_R σ 607 a0)  h rfl ⟨Nat.le_refl _, Nat.le_refl _⟩ e71_1 k.1 (Nat.le_of_ble_eq_true rfl) dX6_node_71 (gx_C.mono k.2 ?_)
  rintro _ σ71 ⟨r71, rfl, k⟩
  refine ⟨r71, rfl, ?_⟩
  refine gx_icmp_ge (tgt := 118) h (by decide) dX6_node_74 (fun c => ?_) (fun c => ?_)
  · replace k := k.1 c
    exact gx_sub [0, 1, 2, 3, 4, 5] rfl k
  · replace k := k.2 c
    refine gx_aload_nq (r := some a0) h 0 rfl dX6_node_77 ?_
    refine gcg_X6_102 h rfl rfl k.1 dX6_node_78 ?_
    replace k := k.2
    refine gx_if_ne (tgt := 118) h (by decide) dX6_node_81 (fun c => ?_) (fun c => ?_)
    · replace k := k.2 c
      exact gx_sub [0, 1, 2, 3, 4, 5] rfl k
    · replace k := k.1 c
      refine gx_aload_nq (r := some a0) h 0 rfl dX6_node_84 ?_
      refine gx_aload_nq (r := some a0) h 0 rfl dX6_node_85 ?_
      refine gcg_X6_25 h rfl rfl k.1 dX6_node_86 ?_
      replace k := k.2
      refine gx_iload h 6 rfl dX6_node_89 ?_
      obtain ⟨a91_2, e91_2, k⟩ := k
      refine gcc_X6_45 (r := gc_R σ71 607 a0) (a0 := x6) h rfl ⟨Nat.le_refl _, Nat.le_refl _⟩ e91_2 k.1 (Nat.le_of_ble_eq_true rfl) dX6_node_91 (gx_C.mono k.2 ?_)
      rintro _ σ91 ⟨r91, rfl, k⟩
      refine ⟨r91, rfl, ?_⟩
      refine gc_castN (r := r91) h rfl q1170 q1639 q1638 q1640 q1641 k.1 dX6_node_94 ?_
      replace k := k.2
      obtain ⟨a97_3, e97_3, k⟩ := k
      refine gcg_X6_49 h rfl e97_3 k.1 dX6_node_97 ?_
      replace k := k.2
      refine gx_iload_n h 1 rfl dX6_node_100 ?_
      refine gx_icmp_ne (tgt := 108) h (by decide) dX6_node_101 (fun c => ?_) (fun c => ?_)
      · replace k := k.2 c
        refine gx_iconst (v := 0) h dX6_node_108 (by decide) ?_
        refine gcp_X6_102 (v := 0) h rfl rfl k.1 rfl rfl dX6_node_109 ?_
        generalize hz : gc_sI σ91 608 a0 0 = σ109
        replace k := k.2 σ109 hz.symm
        refine gx_iinc (v := x6 + 1) (L' := [(6, .int (x6 + 1)), (0, va_rf (some a0)), (1, .int x1), (2, .int x2), (3, va_rf x3), (4, va_rf x4), (5, va_rf x5)]) h 6 rfl rfl (Nat.le_of_ble_eq_true rfl) (by generalize x5 = z; cases z <;> rfl) dX6_node_112 ?_
        refine gx_goto (tgt := 65) h (by decide) dX6_node_115 ?_
        exact gx_sub [1, 2, 3, 4, 5, 6, 0] rfl k
      · replace k := k.1 c
        refine gx_iconst (v := 1) h dX6_node_104 (by decide) ?_
        refine gx_goto (tgt := 109) h (by decide) dX6_node_105 ?_
        refine gcp_X6_102 (v := 1) h rfl rfl k.1 rfl rfl dX6_node_109 ?_
        generalize hz : gc_sI σ91 608 a0 1 = σ109
        replace k := k.2 σ109 hz.symm
        refine gx_iinc (v := x6 + 1) (L' := [(6, .int (x6 + 1)), (0, va_rf (some a0)), (1, .int x1), (2, .int x2), (3, va_rf x3), (4, va_rf x4), (5, va_rf x5)]) h 6 rfl rfl (Nat.le_of_ble_eq_true rfl) (by generalize x5 = z; cases z <;> rfl) dX6_node_112 ?_
        refine gx_goto (tgt := 65) h (by decide) dX6_node_115 ?_
        exact gx_sub [1, 2, 3, 4, 5, 6, 0] rfl k
theorem bc_X6_node_118 {θ : gc_T} {K : gx_K} {P : Option Nat → gc_S → Prop} {σ : gc_S} {x1 x2 : Int32} {x3 x4 x5 : Option Nat} {a0 n c s bc bs : Nat} (h : gc_K θ K (nX6_node (n + 1) c s)) (k : gc_is σ a0 6 ∧ (((gc_I σ 608 a0) = 0 → gc_is σ a0 6 ∧ gx_C (gc_O θ) (nX6_kindOf n) (.ref a0 :: [.int x1, va_rf x3, va_rf x4, va_rf x5, .int 0]) σ (gc_Pr (fun r135 σ135 => ∃ a138_1 : Nat, r135 = some a138_1 ∧ gc_isN σ135 a138_1 ∧ vC_kind θ n σ135 a138_1 [] (gc_Pi (fun r138 σ138 => gc_is σ138 a0 6 ∧ gx_C (gc_O θ) (nX6_labelOf n) (.ref a0 :: [.int x1, va_rf x3, va_rf x4, va_rf x5, .int 0]) σ138 (gc_Pr (fun r150 σ150 => ∃ a153_2 : Nat, r150 = some a153_2 ∧ gc_isN σ150 a153_2 ∧ gc_is σ150 a0 6 ∧ gx_C (gc_O θ) (nX6_textOf n) (.ref a0 :: [.int x1, va_rf x3, va_rf x4, va_rf x5, .int 0]) σ150 (gc_Pr (fun r164 σ164 => ∃ a167_3 : Nat, r164 = some a167_3 ∧ gc_isN σ164 a167_3 ∧ ∃ c170 s170 : Nat, (c170 ≤ bc ∧ s170 ≤ bs) ∧ gx_C (gc_O θ) (nX0_made n c170 s170) [.int r138, .int x1, va_rf (gc_R σ150 801 a153_2), va_rf (gc_R σ164 802 a167_3)] σ164 (gc_Pr (fun r170 σ170 => gc_is σ170 a0 6 ∧ ∃ a181_4 : Nat, gc_R σ170 607 a0 = some a181_4 ∧ ∃ c181 s181 : Nat, (c181 ≤ (bc - c170) ∧ s181 ≤ (bs - s170)) ∧ gc_is σ170 a181_4 12 ∧ gx_C (gc_O θ) (nJ5_add n c181 s181) (.ref a181_4 :: [va_rf r170]) σ170 (gc_Pi (fun r181 σ181 => gc_is σ181 a0 6 ∧ gx_C (gc_O θ) (nX6_listOf n) (.ref a0 :: [.int x1, va_rf x3, va_rf x4, va_rf x5, .int 0]) σ181 (gc_Pr (fun r193 σ193 => gc_G θ K (nX6_node (n + 1) c s) (gc_Pr P) 201 [(0, va_rf (some a0)), (2, .int x2), (6, va_rf r170), (7, va_rf r193), (8, .int 0)] [] σ193 ((bc - c170) - c181) ((bs - s170) - s181)))))))))))))))) ∧ (¬ (gc_I σ 608 a0) = 0 → P none σ))) : gc_G θ K (nX6_node (n + 1) c s) (gc_Pr P) 118 [(0, va_rf (some a0)), (1, .int x1), (2, .int x2), (3, va_rf x3), (4, va_rf x4), (5, va_rf x5)] [] σ bc bs := by
  refine gx_aload_nq (r := some a0) h 0 rfl dX6_node_118 ?_
  refine gcg_X6_102 h rfl rfl k.1 dX6_node_119 ?_
  replace k := k.2
  refine gx_if_eq (tgt := 127) h (by decide) dX6_node_122 (fun c => ?_) (fun c => ?_)
  · replace k := k.1 c
    refine gx_aload_nq (r := some a0) h 0 rfl dX6_node_127 ?_
    refine gx_iload_n h 1 rfl dX6_node_128 ?_
    refine gx_aload_nq (r := x3) h 3 rfl dX6_node_129 ?_
    refine gx_aloadq (r := x4) h 4 rfl dX6_node_130 ?_
    refine gx_aloadq (r := x5) h 5 rfl dX6_node_132 ?_
    refine gx_iconst (v := 0) h dX6_node_134 (by decide) ?_
    refine gcc_X6_120 (r := some a0) (a0 := x1) (a1 := x3) (a2 := x4) (a3 := x5) (a4 := 0) h rfl ⟨Nat.le_refl _, Nat.le_refl _⟩ rfl k.1 (Nat.le_of_ble_eq_true rfl) dX6_node_135 (gx_C.mono k.2 ?_)
    rintro _ σ135 ⟨r135, rfl, k⟩
    refine ⟨r135, rfl, ?_⟩
    obtain ⟨a138_1, e138_1, k⟩ := k
    refine gcc_X6_52 (r := r135)  h rfl ⟨Nat.le_refl _, Nat.le_refl _⟩ e138_1 k.1 (Nat.le_of_ble_eq_true rfl) dX6_node_138 (vC_kind_mono k.2 ?_)
    rintro _ σ138 ⟨r138, rfl, k⟩
    refine ⟨r138, rfl, ?_⟩
    refine gx_iload_n h 1 rfl dX6_node_141 ?_
    refine gx_aload_nq (r := some a0) h 0 rfl dX6_node_142 ?_
    refine gx_iload_n h 1 rfl dX6_node_143 ?_
    refine gx_aload_nq (r := x3) h 3 rfl dX6_node_144 ?_
    refine gx_aloadq (r := x4) h 4 rfl dX6_node_145 ?_
    refine gx_aloadq (r := x5) h 5 rfl dX6_node_147 ?_
    refine gx_iconst (v := 0) h dX6_node_149 (by decide) ?_
    refine gcc_X6_124 (r := some a0) (a0 := x1) (a1 := x3) (a2 := x4) (a3 := x5) (a4 := 0) h rfl ⟨Nat.le_refl _, Nat.le_refl _⟩ rfl k.1 (Nat.le_of_ble_eq_true rfl) dX6_node_150 (gx_C.mono k.2 ?_)
    rintro _ σ150 ⟨r150, rfl, k⟩
    refine ⟨r150, rfl, ?_⟩
    obtain ⟨a153_2, e153_2, k⟩ := k
    refine gcg_X6_55 h rfl e153_2 k.1 dX6_node_153 ?_
    replace k := k.2
    refine gx_aload_nq (r := some a0) h 0 rfl dX6_node_156 ?_
    refine gx_iload_n h 1 rfl dX6_node_157 ?_
    refine gx_aload_nq (r := x3) h 3 rfl dX6_node_158 ?_
    refine gx_aloadq (r := x4) h 4 rfl dX6_node_159 ?_
    refine gx_aloadq (r := x5) h 5 rfl dX6_node_161 ?_
    refine gx_iconst (v := 0) h dX6_node_163 (by decide) ?_
    refine gcc_X6_127 (r := some a0) (a0 := x1) (a1 := x3) (a2 := x4) (a3 := x5) (a4 := 0) h rfl ⟨Nat.le_refl _, Nat.le_refl _⟩ rfl k.1 (by simp only [List.map_cons, List.map_nil, List.sum_cons, List.sum_nil, gx_cat]; exact Nat.le_of_ble_eq_true rfl) dX6_node_164 (gx_C.mono k.2 ?_)
    rintro _ σ164 ⟨r164, rfl, k⟩
    refine ⟨r164, rfl, ?_⟩
    obtain ⟨a167_3, e167_3, k⟩ := k
    refine gcg_X6_63 h rfl e167_3 k.1 dX6_node_167 ?_
    replace k := k.2
    obtain ⟨c170, s170, hb170, k⟩ := k
    refine gcc_X6_130 (a0 := r138) (a1 := x1) (a2 := gc_R σ150 801 a153_2) (a3 := gc_R σ164 802 a167_3) h rfl ⟨Nat.le_refl _, Nat.le_refl _⟩ hb170 (Nat.le_of_ble_eq_true rfl) dX6_node_170 (gx_C.mono k ?_)
    rintro _ σ170 ⟨r170, rfl, k⟩
    refine ⟨r170, rfl, ?_⟩
    refine gx_astoreq (r := r170) (L' := [(6, va_rf r170), (0, va_rf (some a0)), (1, .int x1), (2, .int x2), (3, va_rf x3), (4, va_rf x4), (5, va_rf x5)]) h (Nat.le_of_ble_eq_true rfl) (by generalize x5 = z; cases z <;> rfl) dX6_node_173 ?_
    refine gx_aload_nq (r := some a0) h 1 rfl dX6_node_175 ?_
    refine gcg_X6_25 h rfl rfl k.1 dX6_node_176 ?_
    replace k := k.2
    refine gx_aloadq (r := r170) h 0 rfl dX6_node_179 ?_
    obtain ⟨a181_4, e181_4, k⟩ := k
    obtain ⟨c181, s181, hb181, k⟩ := k
    refine gcc_X6_133 (r := gc_R σ170 607 a0) (a0 := r170) h rfl ⟨Nat.le_refl _, Nat.le_refl _⟩ hb181 e181_4 k.1 (Nat.le_of_ble_eq_true rfl) dX6_node_181 (gx_C.mono k.2 ?_)
    rintro _ σ181 ⟨r181, rfl, k⟩
    refine ⟨r181, rfl, ?_⟩
    refine gx_pop h rfl dX6_node_184 ?_
    refine gx_aload_nq (r := some a0) h 1 rfl dX6_node_185 ?_
    refine gx_iload_n h 2 rfl dX6_node_186 ?_
    refine gx_aload_nq (r := x3) h 4 rfl dX6_node_187 ?_
    refine gx_aloadq (r := x4) h 5 rfl dX6_node_188 ?_
    refine gx_aloadq (r := x5) h 6 rfl dX6_node_190 ?_
    refine gx_iconst (v := 0) h dX6_node_192 (by decide) ?_
    refine gcc_X6_137 (r := some a0) (a0 := x1) (a1 := x3) (a2 := x4) (a3 := x5) (a4 := 0) h rfl ⟨Nat.le_refl _, Nat.le_refl _⟩ rfl k.1 (Nat.le_of_ble_eq_true rfl) dX6_node_193 (gx_C.mono k.2 ?_)
    rintro _ σ193 ⟨r193, rfl, k⟩
    refine ⟨r193, rfl, ?_⟩
    refine gx_astoreq (r := r193) (L' := [(7, va_rf r193), (6, va_rf r170), (0, va_rf (some a0)), (1, .int x1), (2, .int x2), (3, va_rf x3), (4, va_rf x4), (5, va_rf x5)]) h (Nat.le_of_ble_eq_true rfl) (by generalize r170 = z; cases z <;> rfl) dX6_node_196 ?_
    refine gx_iconst (v := 0) h dX6_node_198 (by decide) ?_
    refine gx_istore (L' := [(8, .int 0), (7, va_rf r193), (6, va_rf r170), (0, va_rf (some a0)), (1, .int x1), (2, .int x2), (3, va_rf x3), (4, va_rf x4), (5, va_rf x5)]) h (Nat.le_of_ble_eq_true rfl) (by generalize r193 = z; cases z <;> rfl) dX6_node_199 ?_
    exact gx_sub [3, 5, 2, 1, 0] rfl k
  · replace k := k.2 c
    refine gx_null h dX6_node_125 ?_
    exact gx_aret (r := none) h rfl (Or.inl ⟨_, rfl⟩) dX6_node_126 (⟨_, rfl, k⟩)
theorem bc_X6_node_201 {θ : gc_T} {K : gx_K} {P : Option Nat → gc_S → Prop} {σ : gc_S} {x2 x8 : Int32} {x6 x7 : Option Nat} {a0 n c s bc bs : Nat} (h : gc_K θ K (nX6_node (n + 1) c s)) (k : ∃ a205_1 : Nat, x7 = some a205_1 ∧ gc_isN σ a205_1 ∧ ∃ a208_2 : Nat, gc_R σ 804 a205_1 = some a208_2 ∧ gc_is σ a208_2 12 ∧ gx_C (gc_O θ) (nJ5_size n) (.ref a208_2 :: []) σ (gc_Pi (fun r208 σ208 => ((r208 ≤ x8 → gc_G θ K (nX6_node (n + 1) c s) (gc_Pr P) 264 [(0, va_rf (some a0)), (6, va_rf x6)] [] σ208 bc bs) ∧ (¬ r208 ≤ x8 → gc_is σ208 a0 6 ∧ (((gc_I σ208 608 a0) = 0 → gc_isN σ208 a205_1 ∧ ∃ a229_3 : Nat, gc_R σ208 804 a205_1 = some a229_3 ∧ gc_is σ208 a229_3 12 ∧ gx_C (gc_O θ) (nJ5_get n) (.ref a229_3 :: [.int x8]) σ208 (gc_Pr (fun r229 σ229 => (∀ a, r229 = some a → gc_isN σ229 a) ∧ ∃ a235_4 : Nat, r229 = some a235_4 ∧ gc_isN σ229 a235_4 ∧ ∃ c241 s241 : Nat, (c241 ≤ bc ∧ s241 ≤ bs) ∧ gc_is σ229 a0 6 ∧ gx_C (gc_O θ) (nX6_node n c241 s241) (.ref a0 :: [.int (gc_I σ229 800 a235_4), .int (x2 + 1)]) σ229 (gc_Pr (fun r241 σ241 => ((r241 = none → gc_G θ K (nX6_node (n + 1) c s) (gc_Pr P) 258 [(0, va_rf (some a0)), (2, .int x2), (6, va_rf x6), (7, va_rf x7), (8, .int x8)] [] σ241 (bc - c241) (bs - s241)) ∧ (¬ r241 = none → ∃ a255_5 : Nat, x6 = some a255_5 ∧ ∃ c255 s255 : Nat, (c255 ≤ (bc - c241) ∧ s255 ≤ (bs - s241)) ∧ gc_isN σ241 a255_5 ∧ vC_add θ n c255 s255 σ241 a255_5 [va_rf r241] (gc_Pv (fun σ255 => gc_G θ K (nX6_node (n + 1) c s) (gc_Pr P) 258 [(0, va_rf (some a0)), (2, .int x2), (6, va_rf x6), (7, va_rf x7), (8, .int x8)] [] σ255 ((bc - c241) - c255) ((bs - s241) - s255)))))))))) ∧ (¬ (gc_I σ208 608 a0) = 0 → gc_G θ K (nX6_node (n + 1) c s) (gc_Pr P) 264 [(0, va_rf (some a0)), (6, va_rf x6)] [] σ208 bc bs))))))) : gc_G θ K (nX6_node (n + 1) c s) (gc_Pr P) 201 [(0, va_rf (some a0)), (2, .int x2), (6, va_rf x6), (7, va_rf x7), (8, .int x8)] [] σ bc bs := by
  refine gx_iload h 4 rfl dX6_node_201 ?_
  refine gx_aloadq (r := x7) h 3 rfl dX6_node_203 ?_
  obtain ⟨a205_1, e205_1, k⟩ := k
  refine gcg_X6_36 h rfl e205_1 k.1 dX6_node_205 ?_
  replace k := k.2
  obtain ⟨a208_2, e208_2, k⟩ := k
  refine gcc_X6_41 (r := gc_R σ 804 a205_1)  h rfl ⟨Nat.le_refl _, Nat.le_refl _⟩ e208_2 k.1 (Nat.le_of_ble_eq_true rfl) dX6_node_208 (gx_C.mono k.2 ?_)
  rintro _ σ208 ⟨r208, rfl, k⟩
  refine ⟨r208, rfl, ?_⟩
  refine gx_icmp_ge (tgt := 264) h (by decide) dX6_node_211 (fun c => ?_) (fun c => ?_)
  · replace k := k.1 c
    exact gx_sub [0, 2] rfl k
  · replace k := k.2 c
    refine gx_aload_nq (r := some a0) h 0 rfl dX6_node_214 ?_
    refine gcg_X6_102 h rfl rfl k.1 dX6_node_215 ?_
    replace k := k.2
    refine gx_if_ne (tgt := 264) h (by decide) dX6_node_218 (fun c => ?_) (fun c => ?_)
    · replace k := k.2 c
      exact gx_sub [0, 2] rfl k
    · replace k := k.1 c
      refine gx_aload_nq (r := some a0) h 0 rfl dX6_node_221 ?_
      refine gx_aloadq (r := x7) h 3 rfl dX6_node_222 ?_
      refine gcg_X6_36 h rfl e205_1 k.1 dX6_node_224 ?_
      replace k := k.2
      refine gx_iload h 4 rfl dX6_node_227 ?_
      obtain ⟨a229_3, e229_3, k⟩ := k
      refine gcc_X6_45 (r := gc_R σ208 804 a205_1) (a0 := x8) h rfl ⟨Nat.le_refl _, Nat.le_refl _⟩ e229_3 k.1 (Nat.le_of_ble_eq_true rfl) dX6_node_229 (gx_C.mono k.2 ?_)
      rintro _ σ229 ⟨r229, rfl, k⟩
      refine ⟨r229, rfl, ?_⟩
      refine gc_castN (r := r229) h rfl q1170 q1639 q1638 q1640 q1641 k.1 dX6_node_232 ?_
      replace k := k.2
      obtain ⟨a235_4, e235_4, k⟩ := k
      refine gcg_X6_49 h rfl e235_4 k.1 dX6_node_235 ?_
      replace k := k.2
      refine gx_iload_n h 1 rfl dX6_node_238 ?_
      refine gx_iconst (v := 1) h dX6_node_239 (by decide) ?_
      refine gx_iadd h dX6_node_240 ?_
      obtain ⟨c241, s241, hb241, k⟩ := k
      refine gcc_X6_106 (r := some a0) (a0 := gc_I σ229 800 a235_4) (a1 := x2 + 1) h rfl ⟨Nat.le_refl _, Nat.le_refl _⟩ hb241 rfl k.1 (Nat.le_of_ble_eq_true rfl) dX6_node_241 (gx_C.mono k.2 ?_)
      rintro _ σ241 ⟨r241, rfl, k⟩
      refine ⟨r241, rfl, ?_⟩
      refine gx_astoreq (r := r241) (L' := [(9, va_rf r241), (0, va_rf (some a0)), (2, .int x2), (6, va_rf x6), (7, va_rf x7), (8, .int x8)]) h (Nat.le_of_ble_eq_true rfl) rfl dX6_node_244 ?_
      refine gx_aloadq (r := r241) h 0 rfl dX6_node_246 ?_
      refine gx_ifnull (r := r241) (tgt := 258) h (by decide) dX6_node_248 (fun c => ?_) (fun c => ?_)
      · replace k := k.1 c
        exact gx_sub [1, 2, 3, 4, 5] rfl k
      · replace k := k.2 c
        refine gx_aloadq (r := x6) h 3 rfl dX6_node_251 ?_
        refine gx_aloadq (r := r241) h 0 rfl dX6_node_253 ?_
        obtain ⟨a255_5, e255_5, k⟩ := k
        obtain ⟨c255, s255, hb255, k⟩ := k
        refine gcc_X6_140 (r := x6) (a0 := r241) h rfl ⟨Nat.le_refl _, Nat.le_refl _⟩ hb255 e255_5 k.1 (Nat.le_of_ble_eq_true rfl) dX6_node_255 (vC_add_mono k.2 ?_)
        rintro _ σ255 ⟨rfl, k⟩
        refine ⟨rfl, ?_⟩
        exact gx_sub [1, 2, 3, 4, 5] rfl k
theorem bc_X6_node_258 {θ : gc_T} {K : gx_K} {P : Option Nat → gc_S → Prop} {σ : gc_S} {x2 x8 : Int32} {x6 x7 : Option Nat} {a0 n c s bc bs : Nat} (h : gc_K θ K (nX6_node (n + 1) c s)) (k : gc_G θ K (nX6_node (n + 1) c s) (gc_Pr P) 201 [(0, va_rf (some a0)), (2, .int x2), (6, va_rf x6), (7, va_rf x7), (8, .int (x8 + 1))] [] σ bc bs) : gc_G θ K (nX6_node (n + 1) c s) (gc_Pr P) 258 [(0, va_rf (some a0)), (2, .int x2), (6, va_rf x6), (7, va_rf x7), (8, .int x8)] [] σ bc bs := by
  refine gx_iinc (v := x8 + 1) (L' := [(8, .int (x8 + 1)), (0, va_rf (some a0)), (2, .int x2), (6, va_rf x6), (7, va_rf x7)]) h 4 rfl rfl (Nat.le_of_ble_eq_true rfl) (by generalize x7 = z; cases z <;> rfl) dX6_node_258 ?_
  refine gx_goto (tgt := 201) h (by decide) dX6_node_261 ?_
  exact gx_sub [1, 2, 3, 4, 0] rfl k
theorem bc_X6_node_264 {θ : gc_T} {K : gx_K} {P : Option Nat → gc_S → Prop} {σ : gc_S} {x6 : Option Nat} {a0 n c s bc bs : Nat} (h : gc_K θ K (nX6_node (n + 1) c s)) (k : gc_is σ a0 6 ∧ (((gc_I σ 608 a0) = 0 → ∃ a274_1 : Nat, x6 = some a274_1 ∧ gc_isN σ a274_1 ∧ ∃ a277_2 : Nat, gc_R σ 804 a274_1 = some a277_2 ∧ gc_is σ a277_2 12 ∧ gx_C (gc_O θ) (nJ5_size n) (.ref a277_2 :: []) σ (gc_Pi (fun r277 σ277 => ((r277 ≤ 0 → gc_G θ K (nX6_node (n + 1) c s) (gc_Pr P) 291 [(6, va_rf x6)] [va_rf (some a0)] σ277 bc bs) ∧ (¬ r277 ≤ 0 → gc_isN σ277 a274_1 ∧ vC_bears θ n σ277 a274_1 [] (gc_Pi (fun r285 σ285 => ((r285 = 0 → gc_is σ285 a0 6 ∧ ∀ σ304, σ304 = gc_sI σ285 608 a0 1 → P x6 σ304) ∧ (¬ r285 = 0 → gc_G θ K (nX6_node (n + 1) c s) (gc_Pr P) 291 [(6, va_rf x6)] [va_rf (some a0)] σ285 bc bs))))))))) ∧ (¬ (gc_I σ 608 a0) = 0 → gc_is σ a0 6 ∧ ∀ σ304, σ304 = gc_sI σ 608 a0 1 → P x6 σ304))) : gc_G θ K (nX6_node (n + 1) c s) (gc_Pr P) 264 [(0, va_rf (some a0)), (6, va_rf x6)] [] σ bc bs := by
  refine gx_aload_nq (r := some a0) h 0 rfl dX6_node_264 ?_
  refine gx_aload_nq (r := some a0) h 0 rfl dX6_node_265 ?_
  refine gcg_X6_102 h rfl rfl k.1 dX6_node_266 ?_
  replace k := k.2
  refine gx_if_ne (tgt := 299) h (by decide) dX6_node_269 (fun c => ?_) (fun c => ?_)
  · replace k := k.2 c
    refine gx_iconst (v := 1) h dX6_node_299 (by decide) ?_
    refine gx_goto (tgt := 304) h (by decide) dX6_node_300 ?_
    refine gcp_X6_102 (v := 1) h rfl rfl k.1 rfl rfl dX6_node_304 ?_
    generalize hz : gc_sI σ 608 a0 1 = σ304
    replace k := k.2 σ304 hz.symm
    refine gx_aloadq (r := x6) h 1 rfl dX6_node_307 ?_
    exact gx_aret (r := x6) h rfl (Or.inl ⟨_, rfl⟩) dX6_node_309 (⟨_, rfl, k⟩)
  · replace k := k.1 c
    refine gx_aloadq (r := x6) h 1 rfl dX6_node_272 ?_
    obtain ⟨a274_1, e274_1, k⟩ := k
    refine gcg_X6_36 h rfl e274_1 k.1 dX6_node_274 ?_
    replace k := k.2
    obtain ⟨a277_2, e277_2, k⟩ := k
    refine gcc_X6_41 (r := gc_R σ 804 a274_1)  h rfl ⟨Nat.le_refl _, Nat.le_refl _⟩ e277_2 k.1 (Nat.le_of_ble_eq_true rfl) dX6_node_277 (gx_C.mono k.2 ?_)
    rintro _ σ277 ⟨r277, rfl, k⟩
    refine ⟨r277, rfl, ?_⟩
    refine gx_if_le (tgt := 291) h (by decide) dX6_node_280 (fun c => ?_) (fun c => ?_)
    · replace k := k.1 c
      exact gx_sub [1] rfl k
    · replace k := k.2 c
      refine gx_aloadq (r := x6) h 1 rfl dX6_node_283 ?_
      refine gcc_X6_142 (r := x6)  h rfl ⟨Nat.le_refl _, Nat.le_refl _⟩ e274_1 k.1 (Nat.le_of_ble_eq_true rfl) dX6_node_285 (vC_bears_mono k.2 ?_)
      rintro _ σ285 ⟨r285, rfl, k⟩
      refine ⟨r285, rfl, ?_⟩
      refine gx_if_eq (tgt := 299) h (by decide) dX6_node_288 (fun c => ?_) (fun c => ?_)
      · replace k := k.1 c
        refine gx_iconst (v := 1) h dX6_node_299 (by decide) ?_
        refine gx_goto (tgt := 304) h (by decide) dX6_node_300 ?_
        refine gcp_X6_102 (v := 1) h rfl rfl k.1 rfl rfl dX6_node_304 ?_
        generalize hz : gc_sI σ285 608 a0 1 = σ304
        replace k := k.2 σ304 hz.symm
        refine gx_aloadq (r := x6) h 1 rfl dX6_node_307 ?_
        exact gx_aret (r := x6) h rfl (Or.inl ⟨_, rfl⟩) dX6_node_309 (⟨_, rfl, k⟩)
      · replace k := k.2 c
        exact gx_sub [1] rfl k
theorem bc_X6_node_291 {θ : gc_T} {K : gx_K} {P : Option Nat → gc_S → Prop} {σ : gc_S} {x6 s0 : Option Nat} {n c s bc bs : Nat} (h : gc_K θ K (nX6_node (n + 1) c s)) (k : ∃ a293_1 : Nat, x6 = some a293_1 ∧ gc_isN σ a293_1 ∧ vC_clashes θ n σ a293_1 [] (gc_Pi (fun r293 σ293 => ((r293 = 0 → ∃ a304_2 : Nat, s0 = some a304_2 ∧ gc_is σ293 a304_2 6 ∧ ∀ σ304, σ304 = gc_sI σ293 608 a304_2 0 → P x6 σ304) ∧ (¬ r293 = 0 → ∃ a304_3 : Nat, s0 = some a304_3 ∧ gc_is σ293 a304_3 6 ∧ ∀ σ304, σ304 = gc_sI σ293 608 a304_3 1 → P x6 σ304))))) : gc_G θ K (nX6_node (n + 1) c s) (gc_Pr P) 291 [(6, va_rf x6)] [va_rf s0] σ bc bs := by
  refine gx_aloadq (r := x6) h 0 rfl dX6_node_291 ?_
  obtain ⟨a293_1, e293_1, k⟩ := k
  refine gcc_X6_146 (r := x6)  h rfl ⟨Nat.le_refl _, Nat.le_refl _⟩ e293_1 k.1 (by simp only [List.map_cons, List.map_nil, List.sum_cons, List.sum_nil, gx_cat]; exact Nat.le_of_ble_eq_true rfl) dX6_node_293 (vC_clashes_mono k.2 ?_)
  rintro _ σ293 ⟨r293, rfl, k⟩
  refine ⟨r293, rfl, ?_⟩
  refine gx_if_eq (tgt := 303) h (by decide) dX6_node_296 (fun c => ?_) (fun c => ?_)
  · replace k := k.1 c
    refine gx_iconst (v := 0) h dX6_node_303 (by decide) ?_
    obtain ⟨a304_2, e304_2, k⟩ := k
    refine gcp_X6_102 (v := 0) h rfl e304_2 k.1 rfl rfl dX6_node_304 ?_
    generalize hz : gc_sI σ293 608 a304_2 0 = σ304
    replace k := k.2 σ304 hz.symm
    refine gx_aloadq (r := x6) h 0 rfl dX6_node_307 ?_
    exact gx_aret (r := x6) h rfl (Or.inl ⟨_, rfl⟩) dX6_node_309 (⟨_, rfl, k⟩)
  · replace k := k.2 c
    refine gx_iconst (v := 1) h dX6_node_299 (by decide) ?_
    refine gx_goto (tgt := 304) h (by decide) dX6_node_300 ?_
    obtain ⟨a304_3, e304_3, k⟩ := k
    refine gcp_X6_102 (v := 1) h rfl e304_3 k.1 rfl rfl dX6_node_304 ?_
    generalize hz : gc_sI σ293 608 a304_3 1 = σ304
    replace k := k.2 σ304 hz.symm
    refine gx_aloadq (r := x6) h 0 rfl dX6_node_307 ?_
    exact gx_aret (r := x6) h rfl (Or.inl ⟨_, rfl⟩) dX6_node_309 (⟨_, rfl, k⟩)
/-! X6.kindOf -/
theorem ec_X6_kindOf {θ : gc_T} {P : Option Nat → gc_S → Prop} {σ : gc_S} {n : Nat} {a0 : Nat} {x1 : Int32} {x2 : Option Nat} {x3 : Option Nat} {x4 : Option Nat} {x5 : Int32} (body : ∀ K, gc_K θ K (nX6_kindOf (n + 1)) → gc_G θ K (nX6_kindOf (n + 1)) (gc_Pr P) 0 [(0, va_rf (some a0)), (1, .int x1), (2, va_rf x2), (3, va_rf x3), (4, va_rf x4), (5, .int x5)] [] σ 0 0) : gx_C (gc_O θ) (nX6_kindOf (n + 1)) [.ref a0, .int x1, va_rf x2, va_rf x3, va_rf x4, .int x5] σ (gc_Pr P) := by
  refine gx_C.intro (gc_z_warm θ) rfl (by cases x2 <;>  cases x3 <;>  cases x4 <;> exact Nat.le_of_ble_eq_true rfl) (fun K h => ?_)
  have k := body K h
  cases x2 <;>  cases x3 <;>  cases x4 <;> exact k
theorem bc_X6_kindOf_0 {θ : gc_T} {K : gx_K} {P : Option Nat → gc_S → Prop} {σ : gc_S} {x1 x5 : Int32} {x2 x3 x4 : Option Nat} {a0 n bc bs : Nat} (h : gc_K θ K (nX6_kindOf (n + 1))) (k : gx_C (gc_O θ) (nX6_isSameKind n) [va_rf x2, va_rf x3] σ (gc_Pi (fun r8 σ8 => gx_C (gc_O θ) (nX6_isSameKind n) [va_rf x2, va_rf x4] σ8 (gc_Pi (fun r14 σ14 => gx_C (gc_O θ) (nX6_isSameKind n) [va_rf x3, va_rf x4] σ14 (gc_Pi (fun r20 σ20 => gc_is σ20 a0 6 ∧ gx_C (gc_O θ) (nX6_chosen n) (.ref a0 :: [.int x1, va_rf x2, va_rf x3, va_rf x4, .int r8, .int r14, .int r20, .int 0, .int x5]) σ20 (gc_Pr (fun r26 σ26 => P r26 σ26))))))))) : gc_G θ K (nX6_kindOf (n + 1)) (gc_Pr P) 0 [(0, va_rf (some a0)), (1, .int x1), (2, va_rf x2), (3, va_rf x3), (4, va_rf x4), (5, .int x5)] [] σ bc bs := by
  refine gx_aload_nq (r := some a0) h 0 rfl dX6_kindOf_0 ?_
  refine gx_iload_n h 1 rfl dX6_kindOf_1 ?_
  refine gx_aload_nq (r := x2) h 2 rfl dX6_kindOf_2 ?_
  refine gx_aload_nq (r := x3) h 3 rfl dX6_kindOf_3 ?_
  refine gx_aloadq (r := x4) h 4 rfl dX6_kindOf_4 ?_
  refine gx_aload_nq (r := x2) h 2 rfl dX6_kindOf_6 ?_
  refine gx_aload_nq (r := x3) h 3 rfl dX6_kindOf_7 ?_
  refine gcc_X6_66 (a0 := x2) (a1 := x3) h rfl ⟨Nat.le_refl _, Nat.le_refl _⟩ (by simp only [List.map_cons, List.map_nil, List.sum_cons, List.sum_nil, gx_cat]; exact Nat.le_of_ble_eq_true rfl) dX6_kindOf_8 (gx_C.mono k ?_)
  rintro _ σ8 ⟨r8, rfl, k⟩
  refine ⟨r8, rfl, ?_⟩
  refine gx_aload_nq (r := x2) h 2 rfl dX6_kindOf_11 ?_
  refine gx_aloadq (r := x4) h 4 rfl dX6_kindOf_12 ?_
  refine gcc_X6_66 (a0 := x2) (a1 := x4) h rfl ⟨Nat.le_refl _, Nat.le_refl _⟩ (by simp only [List.map_cons, List.map_nil, List.sum_cons, List.sum_nil, gx_cat]; exact Nat.le_of_ble_eq_true rfl) dX6_kindOf_14 (gx_C.mono k ?_)
  rintro _ σ14 ⟨r14, rfl, k⟩
  refine ⟨r14, rfl, ?_⟩
  refine gx_aload_nq (r := x3) h 3 rfl dX6_kindOf_17 ?_
  refine gx_aloadq (r := x4) h 4 rfl dX6_kindOf_18 ?_
  refine gcc_X6_66 (a0 := x3) (a1 := x4) h rfl ⟨Nat.le_refl _, Nat.le_refl _⟩ (by simp only [List.map_cons, List.map_nil, List.sum_cons, List.sum_nil, gx_cat]; exact Nat.le_of_ble_eq_true rfl) dX6_kindOf_20 (gx_C.mono k ?_)
  rintro _ σ20 ⟨r20, rfl, k⟩
  refine ⟨r20, rfl, ?_⟩
  refine gx_iconst (v := 0) h dX6_kindOf_23 (by decide) ?_
  refine gx_iload h 5 rfl dX6_kindOf_24 ?_
  refine gcc_X6_70 (r := some a0) (a0 := x1) (a1 := x2) (a2 := x3) (a3 := x4) (a4 := r8) (a5 := r14) (a6 := r20) (a7 := 0) (a8 := x5) h rfl ⟨Nat.le_refl _, Nat.le_refl _⟩ rfl k.1 (Nat.le_of_ble_eq_true rfl) dX6_kindOf_26 (gx_C.mono k.2 ?_)
  rintro _ σ26 ⟨r26, rfl, k⟩
  refine ⟨r26, rfl, ?_⟩
  exact gx_aret (r := r26) h rfl (Or.inl ⟨_, rfl⟩) dX6_kindOf_29 (⟨_, rfl, k⟩)
/-! X6.isSameKind -/
theorem ec_X6_isSameKind {θ : gc_T} {P : Int32 → gc_S → Prop} {σ : gc_S} {n : Nat} {x0 : Option Nat} {x1 : Option Nat} (body : ∀ K, gc_K θ K (nX6_isSameKind (n + 1)) → gc_G θ K (nX6_isSameKind (n + 1)) (gc_Pi P) 0 [(0, va_rf x0), (1, va_rf x1)] [] σ 0 0) : gx_C (gc_O θ) (nX6_isSameKind (n + 1)) [va_rf x0, va_rf x1] σ (gc_Pi P) := by
  refine gx_C.intro (gc_z_warm θ) rfl (by cases x0 <;>  cases x1 <;> exact Nat.le_of_ble_eq_true rfl) (fun K h => ?_)
  have k := body K h
  cases x0 <;>  cases x1 <;> exact k
theorem bc_X6_isSameKind_0 {θ : gc_T} {K : gx_K} {P : Int32 → gc_S → Prop} {σ : gc_S} {x0 x1 : Option Nat} {n bc bs : Nat} (h : gc_K θ K (nX6_isSameKind (n + 1))) (k : ((x0 = none → gc_G θ K (nX6_isSameKind (n + 1)) (gc_Pi P) 23 [] [] σ bc bs) ∧ (¬ x0 = none → ((x1 = none → gc_G θ K (nX6_isSameKind (n + 1)) (gc_Pi P) 23 [] [] σ bc bs) ∧ (¬ x1 = none → ∃ a9_1 : Nat, x0 = some a9_1 ∧ gc_isN σ a9_1 ∧ vC_kind θ n σ a9_1 [] (gc_Pi (fun r9 σ9 => ∃ a13_2 : Nat, x1 = some a13_2 ∧ gc_isN σ9 a13_2 ∧ vC_kind θ n σ9 a13_2 [] (gc_Pi (fun r13 σ13 => ((r9 = r13 → P 1 σ13) ∧ (¬ r9 = r13 → gc_G θ K (nX6_isSameKind (n + 1)) (gc_Pi P) 23 [] [] σ13 bc bs))))))))))) : gc_G θ K (nX6_isSameKind (n + 1)) (gc_Pi P) 0 [(0, va_rf x0), (1, va_rf x1)] [] σ bc bs := by
  refine gx_aload_nq (r := x0) h 0 rfl dX6_isSameKind_0 ?_
  refine gx_ifnull (r := x0) (tgt := 23) h (by decide) dX6_isSameKind_1 (fun c => ?_) (fun c => ?_)
  · replace k := k.1 c
    exact gx_sub [] rfl k
  · replace k := k.2 c
    refine gx_aload_nq (r := x1) h 1 rfl dX6_isSameKind_4 ?_
    refine gx_ifnull (r := x1) (tgt := 23) h (by decide) dX6_isSameKind_5 (fun c => ?_) (fun c => ?_)
    · replace k := k.1 c
      exact gx_sub [] rfl k
    · replace k := k.2 c
      refine gx_aload_nq (r := x0) h 0 rfl dX6_isSameKind_8 ?_
      obtain ⟨a9_1, e9_1, k⟩ := k
      refine gcc_X6_52 (r := x0)  h rfl ⟨Nat.le_refl _, Nat.le_refl _⟩ e9_1 k.1 (Nat.le_of_ble_eq_true rfl) dX6_isSameKind_9 (vC_kind_mono k.2 ?_)
      rintro _ σ9 ⟨r9, rfl, k⟩
      refine ⟨r9, rfl, ?_⟩
      refine gx_aload_nq (r := x1) h 1 rfl dX6_isSameKind_12 ?_
      obtain ⟨a13_2, e13_2, k⟩ := k
      refine gcc_X6_52 (r := x1)  h rfl ⟨Nat.le_refl _, Nat.le_refl _⟩ e13_2 k.1 (Nat.le_of_ble_eq_true rfl) dX6_isSameKind_13 (vC_kind_mono k.2 ?_)
      rintro _ σ13 ⟨r13, rfl, k⟩
      refine ⟨r13, rfl, ?_⟩
      refine gx_icmp_ne (tgt := 23) h (by decide) dX6_isSameKind_16 (fun c => ?_) (fun c => ?_)
      · replace k := k.2 c
        exact gx_sub [] rfl k
      · replace k := k.1 c
        refine gx_iconst (v := 1) h dX6_isSameKind_19 (by decide) ?_
        refine gx_goto (tgt := 24) h (by decide) dX6_isSameKind_20 ?_
        exact gx_zret h rfl rfl dX6_isSameKind_24 (⟨_, rfl, k⟩)
theorem bc_X6_isSameKind_23 {θ : gc_T} {K : gx_K} {P : Int32 → gc_S → Prop} {σ : gc_S} {n bc bs : Nat} (h : gc_K θ K (nX6_isSameKind (n + 1))) (k : P 0 σ) : gc_G θ K (nX6_isSameKind (n + 1)) (gc_Pi P) 23 [] [] σ bc bs := by
  refine gx_iconst (v := 0) h dX6_isSameKind_23 (by decide) ?_
  exact gx_zret h rfl rfl dX6_isSameKind_24 (⟨_, rfl, k⟩)
/-! X6.chosen -/
theorem ec_X6_chosen {θ : gc_T} {P : Option Nat → gc_S → Prop} {σ : gc_S} {n : Nat} {a0 : Nat} {x1 : Int32} {x2 : Option Nat} {x3 : Option Nat} {x4 : Option Nat} {x5 : Int32} {x6 : Int32} {x7 : Int32} {x8 : Int32} {x9 : Int32} (body : ∀ K, gc_K θ K (nX6_chosen (n + 1)) → gc_G θ K (nX6_chosen (n + 1)) (gc_Pr P) 0 [(0, va_rf (some a0)), (1, .int x1), (2, va_rf x2), (3, va_rf x3), (4, va_rf x4), (5, .int x5), (6, .int x6), (7, .int x7), (8, .int x8), (9, .int x9)] [] σ 0 0) : gx_C (gc_O θ) (nX6_chosen (n + 1)) [.ref a0, .int x1, va_rf x2, va_rf x3, va_rf x4, .int x5, .int x6, .int x7, .int x8, .int x9] σ (gc_Pr P) := by
  refine gx_C.intro (gc_z_warm θ) rfl (by cases x2 <;>  cases x3 <;>  cases x4 <;> exact Nat.le_of_ble_eq_true rfl) (fun K h => ?_)
  have k := body K h
  cases x2 <;>  cases x3 <;>  cases x4 <;> exact k
theorem bc_X6_chosen_0 {θ : gc_T} {K : gx_K} {P : Option Nat → gc_S → Prop} {σ : gc_S} {x1 x5 x6 x7 x8 x9 : Int32} {x2 x3 x4 : Option Nat} {a0 n bc bs : Nat} (h : gc_K θ K (nX6_chosen (n + 1))) (k : ((x3 = none → gc_G θ K (nX6_chosen (n + 1)) (gc_Pr P) 9 [(2, va_rf x2), (3, va_rf x3), (4, va_rf x4)] [] σ bc bs) ∧ (¬ x3 = none → ((x4 = none → gc_G θ K (nX6_chosen (n + 1)) (gc_Pr P) 9 [(2, va_rf x2), (3, va_rf x3), (4, va_rf x4)] [] σ bc bs) ∧ (¬ x4 = none → ((x2 = none → ((x7 = 0 → ((x9 = 0 → gc_G θ K (nX6_chosen (n + 1)) (gc_Pr P) 50 [(3, va_rf x3)] [] σ bc bs) ∧ (¬ x9 = 0 → gc_is σ a0 6 ∧ gx_C (gc_O θ) (nX6_clash n) (.ref a0 :: [.int x1, .int x8]) σ (gc_Pv (fun σ47 => gc_G θ K (nX6_chosen (n + 1)) (gc_Pr P) 50 [(3, va_rf x3)] [] σ47 bc bs))))) ∧ (¬ x7 = 0 → gc_G θ K (nX6_chosen (n + 1)) (gc_Pr P) 50 [(3, va_rf x3)] [] σ bc bs))) ∧ (¬ x2 = none → ((x5 = 0 → ((x6 = 0 → ((x7 = 0 → ((x9 = 0 → gc_G θ K (nX6_chosen (n + 1)) (gc_Pr P) 84 [(2, va_rf x2)] [] σ bc bs) ∧ (¬ x9 = 0 → gc_is σ a0 6 ∧ gx_C (gc_O θ) (nX6_clash n) (.ref a0 :: [.int x1, .int x8]) σ (gc_Pv (fun σ81 => gc_G θ K (nX6_chosen (n + 1)) (gc_Pr P) 84 [(2, va_rf x2)] [] σ81 bc bs))))) ∧ (¬ x7 = 0 → gc_G θ K (nX6_chosen (n + 1)) (gc_Pr P) 70 [(3, va_rf x3)] [] σ bc bs))) ∧ (¬ x6 = 0 → gc_G θ K (nX6_chosen (n + 1)) (gc_Pr P) 70 [(3, va_rf x3)] [] σ bc bs))) ∧ (¬ x5 = 0 → P x4 σ))))))))) : gc_G θ K (nX6_chosen (n + 1)) (gc_Pr P) 0 [(0, va_rf (some a0)), (1, .int x1), (2, va_rf x2), (3, va_rf x3), (4, va_rf x4), (5, .int x5), (6, .int x6), (7, .int x7), (8, .int x8), (9, .int x9)] [] σ bc bs := by
  refine gx_aload_nq (r := x3) h 3 rfl dX6_chosen_0 ?_
  refine gx_ifnull (r := x3) (tgt := 9) h (by decide) dX6_chosen_1 (fun c => ?_) (fun c => ?_)
  · replace k := k.1 c
    exact gx_sub [2, 3, 4] rfl k
  · replace k := k.2 c
    refine gx_aloadq (r := x4) h 4 rfl dX6_chosen_4 ?_
    refine gx_ifnonnull (r := x4) (tgt := 29) h (by decide) dX6_chosen_6 (fun c => ?_) (fun c => ?_)
    · replace k := k.2 c
      refine gx_aload_nq (r := x2) h 2 rfl dX6_chosen_29 ?_
      refine gx_ifnonnull (r := x2) (tgt := 52) h (by decide) dX6_chosen_30 (fun c => ?_) (fun c => ?_)
      · replace k := k.2 c
        refine gx_iload h 5 rfl dX6_chosen_52 ?_
        refine gx_if_eq (tgt := 60) h (by decide) dX6_chosen_54 (fun c => ?_) (fun c => ?_)
        · replace k := k.1 c
          refine gx_iload h 6 rfl dX6_chosen_60 ?_
          refine gx_if_ne (tgt := 70) h (by decide) dX6_chosen_62 (fun c => ?_) (fun c => ?_)
          · replace k := k.2 c
            exact gx_sub [3] rfl k
          · replace k := k.1 c
            refine gx_iload h 7 rfl dX6_chosen_65 ?_
            refine gx_if_eq (tgt := 72) h (by decide) dX6_chosen_67 (fun c => ?_) (fun c => ?_)
            · replace k := k.1 c
              refine gx_iload h 9 rfl dX6_chosen_72 ?_
              refine gx_if_eq (tgt := 84) h (by decide) dX6_chosen_74 (fun c => ?_) (fun c => ?_)
              · replace k := k.1 c
                exact gx_sub [2] rfl k
              · replace k := k.2 c
                refine gx_aload_nq (r := some a0) h 0 rfl dX6_chosen_77 ?_
                refine gx_iload_n h 1 rfl dX6_chosen_78 ?_
                refine gx_iload h 8 rfl dX6_chosen_79 ?_
                refine gcc_X6_32 (r := some a0) (a0 := x1) (a1 := x8) h rfl ⟨Nat.le_refl _, Nat.le_refl _⟩ rfl k.1 (Nat.le_of_ble_eq_true rfl) dX6_chosen_81 (gx_C.mono k.2 ?_)
                rintro _ σ81 ⟨rfl, k⟩
                refine ⟨rfl, ?_⟩
                exact gx_sub [2] rfl k
            · replace k := k.2 c
              exact gx_sub [3] rfl k
        · replace k := k.2 c
          refine gx_aloadq (r := x4) h 4 rfl dX6_chosen_57 ?_
          exact gx_aret (r := x4) h rfl (Or.inl ⟨_, rfl⟩) dX6_chosen_59 (⟨_, rfl, k⟩)
      · replace k := k.1 c
        refine gx_iload h 7 rfl dX6_chosen_33 ?_
        refine gx_if_ne (tgt := 50) h (by decide) dX6_chosen_35 (fun c => ?_) (fun c => ?_)
        · replace k := k.2 c
          exact gx_sub [3] rfl k
        · replace k := k.1 c
          refine gx_iload h 9 rfl dX6_chosen_38 ?_
          refine gx_if_eq (tgt := 50) h (by decide) dX6_chosen_40 (fun c => ?_) (fun c => ?_)
          · replace k := k.1 c
            exact gx_sub [3] rfl k
          · replace k := k.2 c
            refine gx_aload_nq (r := some a0) h 0 rfl dX6_chosen_43 ?_
            refine gx_iload_n h 1 rfl dX6_chosen_44 ?_
            refine gx_iload h 8 rfl dX6_chosen_45 ?_
            refine gcc_X6_32 (r := some a0) (a0 := x1) (a1 := x8) h rfl ⟨Nat.le_refl _, Nat.le_refl _⟩ rfl k.1 (Nat.le_of_ble_eq_true rfl) dX6_chosen_47 (gx_C.mono k.2 ?_)
            rintro _ σ47 ⟨rfl, k⟩
            refine ⟨rfl, ?_⟩
            exact gx_sub [3] rfl k
    · replace k := k.1 c
      exact gx_sub [2, 3, 4] rfl k
theorem bc_X6_chosen_9 {θ : gc_T} {K : gx_K} {P : Option Nat → gc_S → Prop} {σ : gc_S} {x2 x3 x4 : Option Nat} {n bc bs : Nat} (h : gc_K θ K (nX6_chosen (n + 1))) (k : ((x3 = none → ((x4 = none → P x2 σ) ∧ (¬ x4 = none → P x4 σ))) ∧ (¬ x3 = none → P x3 σ))) : gc_G θ K (nX6_chosen (n + 1)) (gc_Pr P) 9 [(2, va_rf x2), (3, va_rf x3), (4, va_rf x4)] [] σ bc bs := by
  refine gx_aload_nq (r := x3) h 1 rfl dX6_chosen_9 ?_
  refine gx_ifnonnull (r := x3) (tgt := 27) h (by decide) dX6_chosen_10 (fun c => ?_) (fun c => ?_)
  · replace k := k.2 c
    refine gx_aload_nq (r := x3) h 1 rfl dX6_chosen_27 ?_
    exact gx_aret (r := x3) h rfl (Or.inl ⟨_, rfl⟩) dX6_chosen_28 (⟨_, rfl, k⟩)
  · replace k := k.1 c
    refine gx_aloadq (r := x4) h 2 rfl dX6_chosen_13 ?_
    refine gx_ifnonnull (r := x4) (tgt := 22) h (by decide) dX6_chosen_15 (fun c => ?_) (fun c => ?_)
    · replace k := k.2 c
      refine gx_aloadq (r := x4) h 2 rfl dX6_chosen_22 ?_
      refine gx_goto (tgt := 28) h (by decide) dX6_chosen_24 ?_
      exact gx_aret (r := x4) h rfl (Or.inl ⟨_, rfl⟩) dX6_chosen_28 (⟨_, rfl, k⟩)
    · replace k := k.1 c
      refine gx_aload_nq (r := x2) h 0 rfl dX6_chosen_18 ?_
      refine gx_goto (tgt := 28) h (by decide) dX6_chosen_19 ?_
      exact gx_aret (r := x2) h rfl (Or.inl ⟨_, rfl⟩) dX6_chosen_28 (⟨_, rfl, k⟩)
theorem bc_X6_chosen_50 {θ : gc_T} {K : gx_K} {P : Option Nat → gc_S → Prop} {σ : gc_S} {x3 : Option Nat} {n bc bs : Nat} (h : gc_K θ K (nX6_chosen (n + 1))) (k : P x3 σ) : gc_G θ K (nX6_chosen (n + 1)) (gc_Pr P) 50 [(3, va_rf x3)] [] σ bc bs := by
  refine gx_aload_nq (r := x3) h 0 rfl dX6_chosen_50 ?_
  exact gx_aret (r := x3) h rfl (Or.inl ⟨_, rfl⟩) dX6_chosen_51 (⟨_, rfl, k⟩)
theorem bc_X6_chosen_70 {θ : gc_T} {K : gx_K} {P : Option Nat → gc_S → Prop} {σ : gc_S} {x3 : Option Nat} {n bc bs : Nat} (h : gc_K θ K (nX6_chosen (n + 1))) (k : P x3 σ) : gc_G θ K (nX6_chosen (n + 1)) (gc_Pr P) 70 [(3, va_rf x3)] [] σ bc bs := by
  refine gx_aload_nq (r := x3) h 0 rfl dX6_chosen_70 ?_
  exact gx_aret (r := x3) h rfl (Or.inl ⟨_, rfl⟩) dX6_chosen_71 (⟨_, rfl, k⟩)
theorem bc_X6_chosen_84 {θ : gc_T} {K : gx_K} {P : Option Nat → gc_S → Prop} {σ : gc_S} {x2 : Option Nat} {n bc bs : Nat} (h : gc_K θ K (nX6_chosen (n + 1))) (k : P x2 σ) : gc_G θ K (nX6_chosen (n + 1)) (gc_Pr P) 84 [(2, va_rf x2)] [] σ bc bs := by
  refine gx_aload_nq (r := x2) h 0 rfl dX6_chosen_84 ?_
  exact gx_aret (r := x2) h rfl (Or.inl ⟨_, rfl⟩) dX6_chosen_85 (⟨_, rfl, k⟩)
/-! X6.labelOf -/
theorem ec_X6_labelOf {θ : gc_T} {P : Option Nat → gc_S → Prop} {σ : gc_S} {n : Nat} {a0 : Nat} {x1 : Int32} {x2 : Option Nat} {x3 : Option Nat} {x4 : Option Nat} {x5 : Int32} (body : ∀ K, gc_K θ K (nX6_labelOf (n + 1)) → gc_G θ K (nX6_labelOf (n + 1)) (gc_Pr P) 0 [(0, va_rf (some a0)), (1, .int x1), (2, va_rf x2), (3, va_rf x3), (4, va_rf x4), (5, .int x5)] [] σ 0 0) : gx_C (gc_O θ) (nX6_labelOf (n + 1)) [.ref a0, .int x1, va_rf x2, va_rf x3, va_rf x4, .int x5] σ (gc_Pr P) := by
  refine gx_C.intro (gc_z_warm θ) rfl (by cases x2 <;>  cases x3 <;>  cases x4 <;> exact Nat.le_of_ble_eq_true rfl) (fun K h => ?_)
  have k := body K h
  cases x2 <;>  cases x3 <;>  cases x4 <;> exact k
theorem bc_X6_labelOf_0 {θ : gc_T} {K : gx_K} {P : Option Nat → gc_S → Prop} {σ : gc_S} {x1 x5 : Int32} {x2 x3 x4 : Option Nat} {a0 n bc bs : Nat} (h : gc_K θ K (nX6_labelOf (n + 1))) (k : gx_C (gc_O θ) (nX6_isSameLabel n) [va_rf x2, va_rf x3] σ (gc_Pi (fun r8 σ8 => gx_C (gc_O θ) (nX6_isSameLabel n) [va_rf x2, va_rf x4] σ8 (gc_Pi (fun r14 σ14 => gx_C (gc_O θ) (nX6_isSameLabel n) [va_rf x3, va_rf x4] σ14 (gc_Pi (fun r20 σ20 => gc_is σ20 a0 6 ∧ gx_C (gc_O θ) (nX6_chosen n) (.ref a0 :: [.int x1, va_rf x2, va_rf x3, va_rf x4, .int r8, .int r14, .int r20, .int 1, .int x5]) σ20 (gc_Pr (fun r26 σ26 => P r26 σ26))))))))) : gc_G θ K (nX6_labelOf (n + 1)) (gc_Pr P) 0 [(0, va_rf (some a0)), (1, .int x1), (2, va_rf x2), (3, va_rf x3), (4, va_rf x4), (5, .int x5)] [] σ bc bs := by
  refine gx_aload_nq (r := some a0) h 0 rfl dX6_labelOf_0 ?_
  refine gx_iload_n h 1 rfl dX6_labelOf_1 ?_
  refine gx_aload_nq (r := x2) h 2 rfl dX6_labelOf_2 ?_
  refine gx_aload_nq (r := x3) h 3 rfl dX6_labelOf_3 ?_
  refine gx_aloadq (r := x4) h 4 rfl dX6_labelOf_4 ?_
  refine gx_aload_nq (r := x2) h 2 rfl dX6_labelOf_6 ?_
  refine gx_aload_nq (r := x3) h 3 rfl dX6_labelOf_7 ?_
  refine gcc_X6_74 (a0 := x2) (a1 := x3) h rfl ⟨Nat.le_refl _, Nat.le_refl _⟩ (by simp only [List.map_cons, List.map_nil, List.sum_cons, List.sum_nil, gx_cat]; exact Nat.le_of_ble_eq_true rfl) dX6_labelOf_8 (gx_C.mono k ?_)
  rintro _ σ8 ⟨r8, rfl, k⟩
  refine ⟨r8, rfl, ?_⟩
  refine gx_aload_nq (r := x2) h 2 rfl dX6_labelOf_11 ?_
  refine gx_aloadq (r := x4) h 4 rfl dX6_labelOf_12 ?_
  refine gcc_X6_74 (a0 := x2) (a1 := x4) h rfl ⟨Nat.le_refl _, Nat.le_refl _⟩ (by simp only [List.map_cons, List.map_nil, List.sum_cons, List.sum_nil, gx_cat]; exact Nat.le_of_ble_eq_true rfl) dX6_labelOf_14 (gx_C.mono k ?_)
  rintro _ σ14 ⟨r14, rfl, k⟩
  refine ⟨r14, rfl, ?_⟩
  refine gx_aload_nq (r := x3) h 3 rfl dX6_labelOf_17 ?_
  refine gx_aloadq (r := x4) h 4 rfl dX6_labelOf_18 ?_
  refine gcc_X6_74 (a0 := x3) (a1 := x4) h rfl ⟨Nat.le_refl _, Nat.le_refl _⟩ (by simp only [List.map_cons, List.map_nil, List.sum_cons, List.sum_nil, gx_cat]; exact Nat.le_of_ble_eq_true rfl) dX6_labelOf_20 (gx_C.mono k ?_)
  rintro _ σ20 ⟨r20, rfl, k⟩
  refine ⟨r20, rfl, ?_⟩
  refine gx_iconst (v := 1) h dX6_labelOf_23 (by decide) ?_
  refine gx_iload h 5 rfl dX6_labelOf_24 ?_
  refine gcc_X6_70 (r := some a0) (a0 := x1) (a1 := x2) (a2 := x3) (a3 := x4) (a4 := r8) (a5 := r14) (a6 := r20) (a7 := 1) (a8 := x5) h rfl ⟨Nat.le_refl _, Nat.le_refl _⟩ rfl k.1 (Nat.le_of_ble_eq_true rfl) dX6_labelOf_26 (gx_C.mono k.2 ?_)
  rintro _ σ26 ⟨r26, rfl, k⟩
  refine ⟨r26, rfl, ?_⟩
  exact gx_aret (r := r26) h rfl (Or.inl ⟨_, rfl⟩) dX6_labelOf_29 (⟨_, rfl, k⟩)
/-! X6.isSameLabel -/
theorem ec_X6_isSameLabel {θ : gc_T} {P : Int32 → gc_S → Prop} {σ : gc_S} {n : Nat} {x0 : Option Nat} {x1 : Option Nat} (body : ∀ K, gc_K θ K (nX6_isSameLabel (n + 1)) → gc_G θ K (nX6_isSameLabel (n + 1)) (gc_Pi P) 0 [(0, va_rf x0), (1, va_rf x1)] [] σ 0 0) : gx_C (gc_O θ) (nX6_isSameLabel (n + 1)) [va_rf x0, va_rf x1] σ (gc_Pi P) := by
  refine gx_C.intro (gc_z_warm θ) rfl (by cases x0 <;>  cases x1 <;> exact Nat.le_of_ble_eq_true rfl) (fun K h => ?_)
  have k := body K h
  cases x0 <;>  cases x1 <;> exact k
theorem bc_X6_isSameLabel_0 {θ : gc_T} {K : gx_K} {P : Int32 → gc_S → Prop} {σ : gc_S} {x0 x1 : Option Nat} {n bc bs : Nat} (h : gc_K θ K (nX6_isSameLabel (n + 1))) (k : ((x0 = none → gc_G θ K (nX6_isSameLabel (n + 1)) (gc_Pi P) 26 [] [] σ bc bs) ∧ (¬ x0 = none → ((x1 = none → gc_G θ K (nX6_isSameLabel (n + 1)) (gc_Pi P) 26 [] [] σ bc bs) ∧ (¬ x1 = none → ∃ a9_1 : Nat, x0 = some a9_1 ∧ gc_isN σ a9_1 ∧ ∃ a13_2 : Nat, x1 = some a13_2 ∧ gc_isN σ a13_2 ∧ gx_C (gc_O θ) (nX0_isSame n) [va_rf (gc_R σ 801 a9_1), va_rf (gc_R σ 801 a13_2)] σ (gc_Pi (fun r16 σ16 => ((r16 = 0 → gc_G θ K (nX6_isSameLabel (n + 1)) (gc_Pi P) 26 [] [] σ16 bc bs) ∧ (¬ r16 = 0 → P 1 σ16))))))))) : gc_G θ K (nX6_isSameLabel (n + 1)) (gc_Pi P) 0 [(0, va_rf x0), (1, va_rf x1)] [] σ bc bs := by
  refine gx_aload_nq (r := x0) h 0 rfl dX6_isSameLabel_0 ?_
  refine gx_ifnull (r := x0) (tgt := 26) h (by decide) dX6_isSameLabel_1 (fun c => ?_) (fun c => ?_)
  · replace k := k.1 c
    exact gx_sub [] rfl k
  · replace k := k.2 c
    refine gx_aload_nq (r := x1) h 1 rfl dX6_isSameLabel_4 ?_
    refine gx_ifnull (r := x1) (tgt := 26) h (by decide) dX6_isSameLabel_5 (fun c => ?_) (fun c => ?_)
    · replace k := k.1 c
      exact gx_sub [] rfl k
    · replace k := k.2 c
      refine gx_aload_nq (r := x0) h 0 rfl dX6_isSameLabel_8 ?_
      obtain ⟨a9_1, e9_1, k⟩ := k
      refine gcg_X6_55 h rfl e9_1 k.1 dX6_isSameLabel_9 ?_
      replace k := k.2
      refine gx_aload_nq (r := x1) h 1 rfl dX6_isSameLabel_12 ?_
      obtain ⟨a13_2, e13_2, k⟩ := k
      refine gcg_X6_55 h rfl e13_2 k.1 dX6_isSameLabel_13 ?_
      replace k := k.2
      refine gcc_X6_59 (a0 := gc_R σ 801 a9_1) (a1 := gc_R σ 801 a13_2) h rfl ⟨Nat.le_refl _, Nat.le_refl _⟩ (Nat.le_of_ble_eq_true rfl) dX6_isSameLabel_16 (gx_C.mono k ?_)
      rintro _ σ16 ⟨r16, rfl, k⟩
      refine ⟨r16, rfl, ?_⟩
      refine gx_if_eq (tgt := 26) h (by decide) dX6_isSameLabel_19 (fun c => ?_) (fun c => ?_)
      · replace k := k.1 c
        exact gx_sub [] rfl k
      · replace k := k.2 c
        refine gx_iconst (v := 1) h dX6_isSameLabel_22 (by decide) ?_
        refine gx_goto (tgt := 27) h (by decide) dX6_isSameLabel_23 ?_
        exact gx_zret h rfl rfl dX6_isSameLabel_27 (⟨_, rfl, k⟩)
theorem bc_X6_isSameLabel_26 {θ : gc_T} {K : gx_K} {P : Int32 → gc_S → Prop} {σ : gc_S} {n bc bs : Nat} (h : gc_K θ K (nX6_isSameLabel (n + 1))) (k : P 0 σ) : gc_G θ K (nX6_isSameLabel (n + 1)) (gc_Pi P) 26 [] [] σ bc bs := by
  refine gx_iconst (v := 0) h dX6_isSameLabel_26 (by decide) ?_
  exact gx_zret h rfl rfl dX6_isSameLabel_27 (⟨_, rfl, k⟩)
/-! X6.textOf -/
theorem ec_X6_textOf {θ : gc_T} {P : Option Nat → gc_S → Prop} {σ : gc_S} {n : Nat} {a0 : Nat} {x1 : Int32} {x2 : Option Nat} {x3 : Option Nat} {x4 : Option Nat} {x5 : Int32} (body : ∀ K, gc_K θ K (nX6_textOf (n + 1)) → gc_G θ K (nX6_textOf (n + 1)) (gc_Pr P) 0 [(0, va_rf (some a0)), (1, .int x1), (2, va_rf x2), (3, va_rf x3), (4, va_rf x4), (5, .int x5)] [] σ 0 0) : gx_C (gc_O θ) (nX6_textOf (n + 1)) [.ref a0, .int x1, va_rf x2, va_rf x3, va_rf x4, .int x5] σ (gc_Pr P) := by
  refine gx_C.intro (gc_z_warm θ) rfl (by cases x2 <;>  cases x3 <;>  cases x4 <;> exact Nat.le_of_ble_eq_true rfl) (fun K h => ?_)
  have k := body K h
  cases x2 <;>  cases x3 <;>  cases x4 <;> exact k
theorem bc_X6_textOf_0 {θ : gc_T} {K : gx_K} {P : Option Nat → gc_S → Prop} {σ : gc_S} {x1 x5 : Int32} {x2 x3 x4 : Option Nat} {a0 n bc bs : Nat} (h : gc_K θ K (nX6_textOf (n + 1))) (k : gx_C (gc_O θ) (nX6_isSameText n) [va_rf x2, va_rf x3] σ (gc_Pi (fun r8 σ8 => gx_C (gc_O θ) (nX6_isSameText n) [va_rf x2, va_rf x4] σ8 (gc_Pi (fun r14 σ14 => gx_C (gc_O θ) (nX6_isSameText n) [va_rf x3, va_rf x4] σ14 (gc_Pi (fun r20 σ20 => gc_is σ20 a0 6 ∧ gx_C (gc_O θ) (nX6_chosen n) (.ref a0 :: [.int x1, va_rf x2, va_rf x3, va_rf x4, .int r8, .int r14, .int r20, .int 2, .int x5]) σ20 (gc_Pr (fun r26 σ26 => P r26 σ26))))))))) : gc_G θ K (nX6_textOf (n + 1)) (gc_Pr P) 0 [(0, va_rf (some a0)), (1, .int x1), (2, va_rf x2), (3, va_rf x3), (4, va_rf x4), (5, .int x5)] [] σ bc bs := by
  refine gx_aload_nq (r := some a0) h 0 rfl dX6_textOf_0 ?_
  refine gx_iload_n h 1 rfl dX6_textOf_1 ?_
  refine gx_aload_nq (r := x2) h 2 rfl dX6_textOf_2 ?_
  refine gx_aload_nq (r := x3) h 3 rfl dX6_textOf_3 ?_
  refine gx_aloadq (r := x4) h 4 rfl dX6_textOf_4 ?_
  refine gx_aload_nq (r := x2) h 2 rfl dX6_textOf_6 ?_
  refine gx_aload_nq (r := x3) h 3 rfl dX6_textOf_7 ?_
  refine gcc_X6_77 (a0 := x2) (a1 := x3) h rfl ⟨Nat.le_refl _, Nat.le_refl _⟩ (by simp only [List.map_cons, List.map_nil, List.sum_cons, List.sum_nil, gx_cat]; exact Nat.le_of_ble_eq_true rfl) dX6_textOf_8 (gx_C.mono k ?_)
  rintro _ σ8 ⟨r8, rfl, k⟩
  refine ⟨r8, rfl, ?_⟩
  refine gx_aload_nq (r := x2) h 2 rfl dX6_textOf_11 ?_
  refine gx_aloadq (r := x4) h 4 rfl dX6_textOf_12 ?_
  refine gcc_X6_77 (a0 := x2) (a1 := x4) h rfl ⟨Nat.le_refl _, Nat.le_refl _⟩ (by simp only [List.map_cons, List.map_nil, List.sum_cons, List.sum_nil, gx_cat]; exact Nat.le_of_ble_eq_true rfl) dX6_textOf_14 (gx_C.mono k ?_)
  rintro _ σ14 ⟨r14, rfl, k⟩
  refine ⟨r14, rfl, ?_⟩
  refine gx_aload_nq (r := x3) h 3 rfl dX6_textOf_17 ?_
  refine gx_aloadq (r := x4) h 4 rfl dX6_textOf_18 ?_
  refine gcc_X6_77 (a0 := x3) (a1 := x4) h rfl ⟨Nat.le_refl _, Nat.le_refl _⟩ (by simp only [List.map_cons, List.map_nil, List.sum_cons, List.sum_nil, gx_cat]; exact Nat.le_of_ble_eq_true rfl) dX6_textOf_20 (gx_C.mono k ?_)
  rintro _ σ20 ⟨r20, rfl, k⟩
  refine ⟨r20, rfl, ?_⟩
  refine gx_iconst (v := 2) h dX6_textOf_23 (by decide) ?_
  refine gx_iload h 5 rfl dX6_textOf_24 ?_
  refine gcc_X6_70 (r := some a0) (a0 := x1) (a1 := x2) (a2 := x3) (a3 := x4) (a4 := r8) (a5 := r14) (a6 := r20) (a7 := 2) (a8 := x5) h rfl ⟨Nat.le_refl _, Nat.le_refl _⟩ rfl k.1 (Nat.le_of_ble_eq_true rfl) dX6_textOf_26 (gx_C.mono k.2 ?_)
  rintro _ σ26 ⟨r26, rfl, k⟩
  refine ⟨r26, rfl, ?_⟩
  exact gx_aret (r := r26) h rfl (Or.inl ⟨_, rfl⟩) dX6_textOf_29 (⟨_, rfl, k⟩)
/-! X6.isSameText -/
theorem ec_X6_isSameText {θ : gc_T} {P : Int32 → gc_S → Prop} {σ : gc_S} {n : Nat} {x0 : Option Nat} {x1 : Option Nat} (body : ∀ K, gc_K θ K (nX6_isSameText (n + 1)) → gc_G θ K (nX6_isSameText (n + 1)) (gc_Pi P) 0 [(0, va_rf x0), (1, va_rf x1)] [] σ 0 0) : gx_C (gc_O θ) (nX6_isSameText (n + 1)) [va_rf x0, va_rf x1] σ (gc_Pi P) := by
  refine gx_C.intro (gc_z_warm θ) rfl (by cases x0 <;>  cases x1 <;> exact Nat.le_of_ble_eq_true rfl) (fun K h => ?_)
  have k := body K h
  cases x0 <;>  cases x1 <;> exact k
theorem bc_X6_isSameText_0 {θ : gc_T} {K : gx_K} {P : Int32 → gc_S → Prop} {σ : gc_S} {x0 x1 : Option Nat} {n bc bs : Nat} (h : gc_K θ K (nX6_isSameText (n + 1))) (k : ((x0 = none → gc_G θ K (nX6_isSameText (n + 1)) (gc_Pi P) 26 [] [] σ bc bs) ∧ (¬ x0 = none → ((x1 = none → gc_G θ K (nX6_isSameText (n + 1)) (gc_Pi P) 26 [] [] σ bc bs) ∧ (¬ x1 = none → ∃ a9_1 : Nat, x0 = some a9_1 ∧ gc_isN σ a9_1 ∧ ∃ a13_2 : Nat, x1 = some a13_2 ∧ gc_isN σ a13_2 ∧ gx_C (gc_O θ) (nX0_isSame n) [va_rf (gc_R σ 802 a9_1), va_rf (gc_R σ 802 a13_2)] σ (gc_Pi (fun r16 σ16 => ((r16 = 0 → gc_G θ K (nX6_isSameText (n + 1)) (gc_Pi P) 26 [] [] σ16 bc bs) ∧ (¬ r16 = 0 → P 1 σ16))))))))) : gc_G θ K (nX6_isSameText (n + 1)) (gc_Pi P) 0 [(0, va_rf x0), (1, va_rf x1)] [] σ bc bs := by
  refine gx_aload_nq (r := x0) h 0 rfl dX6_isSameText_0 ?_
  refine gx_ifnull (r := x0) (tgt := 26) h (by decide) dX6_isSameText_1 (fun c => ?_) (fun c => ?_)
  · replace k := k.1 c
    exact gx_sub [] rfl k
  · replace k := k.2 c
    refine gx_aload_nq (r := x1) h 1 rfl dX6_isSameText_4 ?_
    refine gx_ifnull (r := x1) (tgt := 26) h (by decide) dX6_isSameText_5 (fun c => ?_) (fun c => ?_)
    · replace k := k.1 c
      exact gx_sub [] rfl k
    · replace k := k.2 c
      refine gx_aload_nq (r := x0) h 0 rfl dX6_isSameText_8 ?_
      obtain ⟨a9_1, e9_1, k⟩ := k
      refine gcg_X6_63 h rfl e9_1 k.1 dX6_isSameText_9 ?_
      replace k := k.2
      refine gx_aload_nq (r := x1) h 1 rfl dX6_isSameText_12 ?_
      obtain ⟨a13_2, e13_2, k⟩ := k
      refine gcg_X6_63 h rfl e13_2 k.1 dX6_isSameText_13 ?_
      replace k := k.2
      refine gcc_X6_59 (a0 := gc_R σ 802 a9_1) (a1 := gc_R σ 802 a13_2) h rfl ⟨Nat.le_refl _, Nat.le_refl _⟩ (Nat.le_of_ble_eq_true rfl) dX6_isSameText_16 (gx_C.mono k ?_)
      rintro _ σ16 ⟨r16, rfl, k⟩
      refine ⟨r16, rfl, ?_⟩
      refine gx_if_eq (tgt := 26) h (by decide) dX6_isSameText_19 (fun c => ?_) (fun c => ?_)
      · replace k := k.1 c
        exact gx_sub [] rfl k
      · replace k := k.2 c
        refine gx_iconst (v := 1) h dX6_isSameText_22 (by decide) ?_
        refine gx_goto (tgt := 27) h (by decide) dX6_isSameText_23 ?_
        exact gx_zret h rfl rfl dX6_isSameText_27 (⟨_, rfl, k⟩)
theorem bc_X6_isSameText_26 {θ : gc_T} {K : gx_K} {P : Int32 → gc_S → Prop} {σ : gc_S} {n bc bs : Nat} (h : gc_K θ K (nX6_isSameText (n + 1))) (k : P 0 σ) : gc_G θ K (nX6_isSameText (n + 1)) (gc_Pi P) 26 [] [] σ bc bs := by
  refine gx_iconst (v := 0) h dX6_isSameText_26 (by decide) ?_
  exact gx_zret h rfl rfl dX6_isSameText_27 (⟨_, rfl, k⟩)
/-! X6.listOf -/
theorem ec_X6_listOf {θ : gc_T} {P : Option Nat → gc_S → Prop} {σ : gc_S} {n : Nat} {a0 : Nat} {x1 : Int32} {x2 : Option Nat} {x3 : Option Nat} {x4 : Option Nat} {x5 : Int32} (body : ∀ K, gc_K θ K (nX6_listOf (n + 1)) → gc_G θ K (nX6_listOf (n + 1)) (gc_Pr P) 0 [(0, va_rf (some a0)), (1, .int x1), (2, va_rf x2), (3, va_rf x3), (4, va_rf x4), (5, .int x5)] [] σ 0 0) : gx_C (gc_O θ) (nX6_listOf (n + 1)) [.ref a0, .int x1, va_rf x2, va_rf x3, va_rf x4, .int x5] σ (gc_Pr P) := by
  refine gx_C.intro (gc_z_warm θ) rfl (by cases x2 <;>  cases x3 <;>  cases x4 <;> exact Nat.le_of_ble_eq_true rfl) (fun K h => ?_)
  have k := body K h
  cases x2 <;>  cases x3 <;>  cases x4 <;> exact k
theorem bc_X6_listOf_0 {θ : gc_T} {K : gx_K} {P : Option Nat → gc_S → Prop} {σ : gc_S} {x1 x5 : Int32} {x2 x3 x4 : Option Nat} {a0 n bc bs : Nat} (h : gc_K θ K (nX6_listOf (n + 1))) (k : gx_C (gc_O θ) (nX6_isSameList n) [va_rf x2, va_rf x3] σ (gc_Pi (fun r8 σ8 => gx_C (gc_O θ) (nX6_isSameList n) [va_rf x2, va_rf x4] σ8 (gc_Pi (fun r14 σ14 => gx_C (gc_O θ) (nX6_isSameList n) [va_rf x3, va_rf x4] σ14 (gc_Pi (fun r20 σ20 => gc_is σ20 a0 6 ∧ gx_C (gc_O θ) (nX6_chosen n) (.ref a0 :: [.int x1, va_rf x2, va_rf x3, va_rf x4, .int r8, .int r14, .int r20, .int 3, .int x5]) σ20 (gc_Pr (fun r26 σ26 => P r26 σ26))))))))) : gc_G θ K (nX6_listOf (n + 1)) (gc_Pr P) 0 [(0, va_rf (some a0)), (1, .int x1), (2, va_rf x2), (3, va_rf x3), (4, va_rf x4), (5, .int x5)] [] σ bc bs := by
  refine gx_aload_nq (r := some a0) h 0 rfl dX6_listOf_0 ?_
  refine gx_iload_n h 1 rfl dX6_listOf_1 ?_
  refine gx_aload_nq (r := x2) h 2 rfl dX6_listOf_2 ?_
  refine gx_aload_nq (r := x3) h 3 rfl dX6_listOf_3 ?_
  refine gx_aloadq (r := x4) h 4 rfl dX6_listOf_4 ?_
  refine gx_aload_nq (r := x2) h 2 rfl dX6_listOf_6 ?_
  refine gx_aload_nq (r := x3) h 3 rfl dX6_listOf_7 ?_
  refine gcc_X6_80 (a0 := x2) (a1 := x3) h rfl ⟨Nat.le_refl _, Nat.le_refl _⟩ (by simp only [List.map_cons, List.map_nil, List.sum_cons, List.sum_nil, gx_cat]; exact Nat.le_of_ble_eq_true rfl) dX6_listOf_8 (gx_C.mono k ?_)
  rintro _ σ8 ⟨r8, rfl, k⟩
  refine ⟨r8, rfl, ?_⟩
  refine gx_aload_nq (r := x2) h 2 rfl dX6_listOf_11 ?_
  refine gx_aloadq (r := x4) h 4 rfl dX6_listOf_12 ?_
  refine gcc_X6_80 (a0 := x2) (a1 := x4) h rfl ⟨Nat.le_refl _, Nat.le_refl _⟩ (by simp only [List.map_cons, List.map_nil, List.sum_cons, List.sum_nil, gx_cat]; exact Nat.le_of_ble_eq_true rfl) dX6_listOf_14 (gx_C.mono k ?_)
  rintro _ σ14 ⟨r14, rfl, k⟩
  refine ⟨r14, rfl, ?_⟩
  refine gx_aload_nq (r := x3) h 3 rfl dX6_listOf_17 ?_
  refine gx_aloadq (r := x4) h 4 rfl dX6_listOf_18 ?_
  refine gcc_X6_80 (a0 := x3) (a1 := x4) h rfl ⟨Nat.le_refl _, Nat.le_refl _⟩ (by simp only [List.map_cons, List.map_nil, List.sum_cons, List.sum_nil, gx_cat]; exact Nat.le_of_ble_eq_true rfl) dX6_listOf_20 (gx_C.mono k ?_)
  rintro _ σ20 ⟨r20, rfl, k⟩
  refine ⟨r20, rfl, ?_⟩
  refine gx_iconst (v := 3) h dX6_listOf_23 (by decide) ?_
  refine gx_iload h 5 rfl dX6_listOf_24 ?_
  refine gcc_X6_70 (r := some a0) (a0 := x1) (a1 := x2) (a2 := x3) (a3 := x4) (a4 := r8) (a5 := r14) (a6 := r20) (a7 := 3) (a8 := x5) h rfl ⟨Nat.le_refl _, Nat.le_refl _⟩ rfl k.1 (Nat.le_of_ble_eq_true rfl) dX6_listOf_26 (gx_C.mono k.2 ?_)
  rintro _ σ26 ⟨r26, rfl, k⟩
  refine ⟨r26, rfl, ?_⟩
  exact gx_aret (r := r26) h rfl (Or.inl ⟨_, rfl⟩) dX6_listOf_29 (⟨_, rfl, k⟩)
/-! X6.isSameList -/
theorem ec_X6_isSameList {θ : gc_T} {P : Int32 → gc_S → Prop} {σ : gc_S} {n : Nat} {x0 : Option Nat} {x1 : Option Nat} (body : ∀ K, gc_K θ K (nX6_isSameList (n + 1)) → gc_G θ K (nX6_isSameList (n + 1)) (gc_Pi P) 0 [(0, va_rf x0), (1, va_rf x1)] [] σ 0 0) : gx_C (gc_O θ) (nX6_isSameList (n + 1)) [va_rf x0, va_rf x1] σ (gc_Pi P) := by
  refine gx_C.intro (gc_z_warm θ) rfl (by cases x0 <;>  cases x1 <;> exact Nat.le_of_ble_eq_true rfl) (fun K h => ?_)
  have k := body K h
  cases x0 <;>  cases x1 <;> exact k
theorem bc_X6_isSameList_0 {θ : gc_T} {K : gx_K} {P : Int32 → gc_S → Prop} {σ : gc_S} {x0 x1 : Option Nat} {n bc bs : Nat} (h : gc_K θ K (nX6_isSameList (n + 1))) (k : ((x0 = none → gc_G θ K (nX6_isSameList (n + 1)) (gc_Pi P) 25 [] [] σ bc bs) ∧ (¬ x0 = none → ((x1 = none → gc_G θ K (nX6_isSameList (n + 1)) (gc_Pi P) 25 [] [] σ bc bs) ∧ (¬ x1 = none → ∃ a9_1 : Nat, x0 = some a9_1 ∧ gc_isN σ a9_1 ∧ ∃ a12_2 : Nat, gc_R σ 804 a9_1 = some a12_2 ∧ gc_is σ a12_2 12 ∧ gx_C (gc_O θ) (nJ5_size n) (.ref a12_2 :: []) σ (gc_Pi (fun r12 σ12 => ∃ a16_3 : Nat, x1 = some a16_3 ∧ gc_isN σ12 a16_3 ∧ ∃ a19_4 : Nat, gc_R σ12 804 a16_3 = some a19_4 ∧ gc_is σ12 a19_4 12 ∧ gx_C (gc_O θ) (nJ5_size n) (.ref a19_4 :: []) σ12 (gc_Pi (fun r19 σ19 => ((r12 = r19 → gc_G θ K (nX6_isSameList (n + 1)) (gc_Pi P) 29 [(0, va_rf x0), (1, va_rf x1), (2, .int 0)] [] σ19 bc bs) ∧ (¬ r12 = r19 → gc_G θ K (nX6_isSameList (n + 1)) (gc_Pi P) 25 [] [] σ19 bc bs))))))))))) : gc_G θ K (nX6_isSameList (n + 1)) (gc_Pi P) 0 [(0, va_rf x0), (1, va_rf x1)] [] σ bc bs := by
  refine gx_aload_nq (r := x0) h 0 rfl dX6_isSameList_0 ?_
  refine gx_ifnull (r := x0) (tgt := 25) h (by decide) dX6_isSameList_1 (fun c => ?_) (fun c => ?_)
  · replace k := k.1 c
    exact gx_sub [] rfl k
  · replace k := k.2 c
    refine gx_aload_nq (r := x1) h 1 rfl dX6_isSameList_4 ?_
    refine gx_ifnull (r := x1) (tgt := 25) h (by decide) dX6_isSameList_5 (fun c => ?_) (fun c => ?_)
    · replace k := k.1 c
      exact gx_sub [] rfl k
    · replace k := k.2 c
      refine gx_aload_nq (r := x0) h 0 rfl dX6_isSameList_8 ?_
      obtain ⟨a9_1, e9_1, k⟩ := k
      refine gcg_X6_36 h rfl e9_1 k.1 dX6_isSameList_9 ?_
      replace k := k.2
      obtain ⟨a12_2, e12_2, k⟩ := k
      refine gcc_X6_41 (r := gc_R σ 804 a9_1)  h rfl ⟨Nat.le_refl _, Nat.le_refl _⟩ e12_2 k.1 (Nat.le_of_ble_eq_true rfl) dX6_isSameList_12 (gx_C.mono k.2 ?_)
      rintro _ σ12 ⟨r12, rfl, k⟩
      refine ⟨r12, rfl, ?_⟩
      refine gx_aload_nq (r := x1) h 1 rfl dX6_isSameList_15 ?_
      obtain ⟨a16_3, e16_3, k⟩ := k
      refine gcg_X6_36 h rfl e16_3 k.1 dX6_isSameList_16 ?_
      replace k := k.2
      obtain ⟨a19_4, e19_4, k⟩ := k
      refine gcc_X6_41 (r := gc_R σ12 804 a16_3)  h rfl ⟨Nat.le_refl _, Nat.le_refl _⟩ e19_4 k.1 (Nat.le_of_ble_eq_true rfl) dX6_isSameList_19 (gx_C.mono k.2 ?_)
      rintro _ σ19 ⟨r19, rfl, k⟩
      refine ⟨r19, rfl, ?_⟩
      refine gx_icmp_eq (tgt := 27) h (by decide) dX6_isSameList_22 (fun c => ?_) (fun c => ?_)
      · replace k := k.1 c
        refine gx_iconst (v := 0) h dX6_isSameList_27 (by decide) ?_
        refine gx_istore_n (L' := [(2, .int 0), (0, va_rf x0), (1, va_rf x1)]) h (Nat.le_of_ble_eq_true rfl) (by generalize x1 = z; cases z <;> rfl) dX6_isSameList_28 ?_
        exact gx_sub [1, 2, 0] rfl k
      · replace k := k.2 c
        exact gx_sub [] rfl k
theorem bc_X6_isSameList_25 {θ : gc_T} {K : gx_K} {P : Int32 → gc_S → Prop} {σ : gc_S} {n bc bs : Nat} (h : gc_K θ K (nX6_isSameList (n + 1))) (k : P 0 σ) : gc_G θ K (nX6_isSameList (n + 1)) (gc_Pi P) 25 [] [] σ bc bs := by
  refine gx_iconst (v := 0) h dX6_isSameList_25 (by decide) ?_
  exact gx_zret h rfl rfl dX6_isSameList_26 (⟨_, rfl, k⟩)
theorem bc_X6_isSameList_29 {θ : gc_T} {K : gx_K} {P : Int32 → gc_S → Prop} {σ : gc_S} {x2 : Int32} {x0 x1 : Option Nat} {n bc bs : Nat} (h : gc_K θ K (nX6_isSameList (n + 1))) (k : ∃ a31_1 : Nat, x0 = some a31_1 ∧ gc_isN σ a31_1 ∧ ∃ a34_2 : Nat, gc_R σ 804 a31_1 = some a34_2 ∧ gc_is σ a34_2 12 ∧ gx_C (gc_O θ) (nJ5_size n) (.ref a34_2 :: []) σ (gc_Pi (fun r34 σ34 => ((r34 ≤ x2 → P 1 σ34) ∧ (¬ r34 ≤ x2 → gc_isN σ34 a31_1 ∧ ∃ a45_3 : Nat, gc_R σ34 804 a31_1 = some a45_3 ∧ gc_is σ34 a45_3 12 ∧ gx_C (gc_O θ) (nJ5_get n) (.ref a45_3 :: [.int x2]) σ34 (gc_Pr (fun r45 σ45 => (∀ a, r45 = some a → gc_isN σ45 a) ∧ ∃ a51_4 : Nat, r45 = some a51_4 ∧ gc_isN σ45 a51_4 ∧ ∃ a55_5 : Nat, x1 = some a55_5 ∧ gc_isN σ45 a55_5 ∧ ∃ a59_6 : Nat, gc_R σ45 804 a55_5 = some a59_6 ∧ gc_is σ45 a59_6 12 ∧ gx_C (gc_O θ) (nJ5_get n) (.ref a59_6 :: [.int x2]) σ45 (gc_Pr (fun r59 σ59 => (∀ a, r59 = some a → gc_isN σ59 a) ∧ ∃ a65_7 : Nat, r59 = some a65_7 ∧ gc_isN σ59 a65_7 ∧ (((gc_I σ45 800 a51_4) = (gc_I σ59 800 a65_7) → gc_G θ K (nX6_isSameList (n + 1)) (gc_Pi P) 29 [(0, va_rf x0), (1, va_rf x1), (2, .int (x2 + 1))] [] σ59 bc bs) ∧ (¬ (gc_I σ45 800 a51_4) = (gc_I σ59 800 a65_7) → P 0 σ59))))))))))) : gc_G θ K (nX6_isSameList (n + 1)) (gc_Pi P) 29 [(0, va_rf x0), (1, va_rf x1), (2, .int x2)] [] σ bc bs := by
  refine gx_iload_n h 2 rfl dX6_isSameList_29 ?_
  refine gx_aload_nq (r := x0) h 0 rfl dX6_isSameList_30 ?_
  obtain ⟨a31_1, e31_1, k⟩ := k
  refine gcg_X6_36 h rfl e31_1 k.1 dX6_isSameList_31 ?_
  replace k := k.2
  obtain ⟨a34_2, e34_2, k⟩ := k
  refine gcc_X6_41 (r := gc_R σ 804 a31_1)  h rfl ⟨Nat.le_refl _, Nat.le_refl _⟩ e34_2 k.1 (Nat.le_of_ble_eq_true rfl) dX6_isSameList_34 (gx_C.mono k.2 ?_)
  rintro _ σ34 ⟨r34, rfl, k⟩
  refine ⟨r34, rfl, ?_⟩
  refine gx_icmp_ge (tgt := 79) h (by decide) dX6_isSameList_37 (fun c => ?_) (fun c => ?_)
  · replace k := k.1 c
    refine gx_iconst (v := 1) h dX6_isSameList_79 (by decide) ?_
    exact gx_zret h rfl rfl dX6_isSameList_80 (⟨_, rfl, k⟩)
  · replace k := k.2 c
    refine gx_aload_nq (r := x0) h 0 rfl dX6_isSameList_40 ?_
    refine gcg_X6_36 h rfl e31_1 k.1 dX6_isSameList_41 ?_
    replace k := k.2
    refine gx_iload_n h 2 rfl dX6_isSameList_44 ?_
    obtain ⟨a45_3, e45_3, k⟩ := k
    refine gcc_X6_45 (r := gc_R σ34 804 a31_1) (a0 := x2) h rfl ⟨Nat.le_refl _, Nat.le_refl _⟩ e45_3 k.1 (Nat.le_of_ble_eq_true rfl) dX6_isSameList_45 (gx_C.mono k.2 ?_)
    rintro _ σ45 ⟨r45, rfl, k⟩
    refine ⟨r45, rfl, ?_⟩
    refine gc_castN (r := r45) h rfl q1170 q1639 q1638 q1640 q1641 k.1 dX6_isSameList_48 ?_
    replace k := k.2
    obtain ⟨a51_4, e51_4, k⟩ := k
    refine gcg_X6_49 h rfl e51_4 k.1 dX6_isSameList_51 ?_
    replace k := k.2
    refine gx_aload_nq (r := x1) h 1 rfl dX6_isSameList_54 ?_
    obtain ⟨a55_5, e55_5, k⟩ := k
    refine gcg_X6_36 h rfl e55_5 k.1 dX6_isSameList_55 ?_
    replace k := k.2
    refine gx_iload_n h 2 rfl dX6_isSameList_58 ?_
    obtain ⟨a59_6, e59_6, k⟩ := k
    refine gcc_X6_45 (r := gc_R σ45 804 a55_5) (a0 := x2) h rfl ⟨Nat.le_refl _, Nat.le_refl _⟩ e59_6 k.1 (Nat.le_of_ble_eq_true rfl) dX6_isSameList_59 (gx_C.mono k.2 ?_)
    rintro _ σ59 ⟨r59, rfl, k⟩
    refine ⟨r59, rfl, ?_⟩
    refine gc_castN (r := r59) h rfl q1170 q1639 q1638 q1640 q1641 k.1 dX6_isSameList_62 ?_
    replace k := k.2
    obtain ⟨a65_7, e65_7, k⟩ := k
    refine gcg_X6_49 h rfl e65_7 k.1 dX6_isSameList_65 ?_
    replace k := k.2
    refine gx_icmp_eq (tgt := 73) h (by decide) dX6_isSameList_68 (fun c => ?_) (fun c => ?_)
    · replace k := k.1 c
      refine gx_iinc (v := x2 + 1) (L' := [(2, .int (x2 + 1)), (0, va_rf x0), (1, va_rf x1)]) h 2 rfl rfl (Nat.le_of_ble_eq_true rfl) (by generalize x1 = z; cases z <;> rfl) dX6_isSameList_73 ?_
      refine gx_goto (tgt := 29) h (by decide) dX6_isSameList_76 ?_
      exact gx_sub [1, 2, 0] rfl k
    · replace k := k.2 c
      refine gx_iconst (v := 0) h dX6_isSameList_71 (by decide) ?_
      exact gx_zret h rfl rfl dX6_isSameList_72 (⟨_, rfl, k⟩)
