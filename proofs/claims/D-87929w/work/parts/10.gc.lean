/-! THE WORLD OF THE COMPONENT: cells by their addresses; a field is a function of addresses -/
abbrev gc_S : Type := List Nat × (Nat → Nat) × (Nat → Nat → Int32) × (Nat → Nat → Option Nat) × (Nat → Nat → Int32) × (Nat → Nat → Option Nat) × (Nat → Nat)
/-- the cells, their kinds, int fields (field, address), reference fields, elements of number arrays (address, place), of reference arrays, lengths -/
abbrev gc_d (σ : gc_S) : List Nat := σ.1
abbrev gc_k (σ : gc_S) : Nat → Nat := σ.2.1
abbrev gc_I (σ : gc_S) : Nat → Nat → Int32 := σ.2.2.1
abbrev gc_R (σ : gc_S) : Nat → Nat → Option Nat := σ.2.2.2.1
abbrev gc_E (σ : gc_S) : Nat → Nat → Int32 := σ.2.2.2.2.1
abbrev gc_Q (σ : gc_S) : Nat → Nat → Option Nat := σ.2.2.2.2.2.1
abbrev gc_n (σ : gc_S) : Nat → Nat := σ.2.2.2.2.2.2
/-- launch, which cells may change, class numbers, the array classes by kind, the heap at the start, the empty byte array, the empty Object array, Throwable's two statics, the array of cached Integers, the Class object of Object[], the cached Integers themselves -/
abbrev gc_T : Type := Launch × (Nat → Prop) × va_G × (Nat → ClassId) × Heap × Nat × Nat × Option Nat × Option Nat × Nat × Nat × (Nat → Nat)
abbrev gc_A (θ : gc_T) : Nat → Prop := θ.2.1
abbrev gc_D (θ : gc_T) : va_G := θ.2.2.1
abbrev gc_c (θ : gc_T) : Nat → ClassId := θ.2.2.2.1
abbrev gc_H (θ : gc_T) : Heap := θ.2.2.2.2.1
abbrev gc_aE (θ : gc_T) : Nat := θ.2.2.2.2.2.1
abbrev gc_aD (θ : gc_T) : Nat := θ.2.2.2.2.2.2.1
abbrev gc_aU (θ : gc_T) : Option Nat := θ.2.2.2.2.2.2.2.1
abbrev gc_aS (θ : gc_T) : Option Nat := θ.2.2.2.2.2.2.2.2.1
abbrev gc_aC (θ : gc_T) : Nat := θ.2.2.2.2.2.2.2.2.2.1
abbrev gc_aM (θ : gc_T) : Nat := θ.2.2.2.2.2.2.2.2.2.2.1
abbrev gc_ch (θ : gc_T) : Nat → Nat := θ.2.2.2.2.2.2.2.2.2.2.2
abbrev gc_cl : List vw_C := [(RX0, TX0, 21), (RX1, TX1, 7), (RX2, TX2, 5), (RX3, TX3, 2), (RX4, TX4, 7), (RX5, TX5, 2), (RX6, TX6, 9), (RX8, TX8, 5), (RX10, TX10, 10), (RX11, TX11, 10), (RX12, TX12, 10), (RX13, TX13, 10), (RJ5, TJ5, 3), (RJ16, TJ16, 1)]
def gc_N : Nat → Nat := fun k => match k with | 0 => 21 | 1 => 7 | 2 => 5 | 3 => 2 | 4 => 7 | 5 => 2 | 6 => 9 | 7 => 5 | 8 => 10 | 9 => 10 | 10 => 10 | 11 => 10 | 12 => 3 | _ => 1
/-- the first field of a class; the four kinds of node share theirs -/
def gc_b (k : Nat) : Nat := if 8 ≤ k ∧ k ≤ 11 then 800 else 100 * k
def gc_rfs : List Nat := [0, 1, 2, 4, 6, 7, 8, 9, 10, 15, 16, 18, 19, 20, 100, 101, 102, 103, 104, 200, 201, 300, 400, 401, 402, 403, 404, 405, 406, 500, 600, 601, 602, 604, 605, 606, 607, 700, 701, 702, 801, 802, 803, 804, 1201]
def gc_rf (f : Nat) : Bool := gc_rfs.contains f
def gc_v (σ : gc_S) (a f : Nat) : Value := if gc_rf f = true then va_rf (gc_R σ f a) else .int (gc_I σ f a)
def gc_fs (σ : gc_S) (a k : Nat) : List Value := (List.range (gc_N k)).map (fun j => gc_v σ a (gc_b k + j))
/-- kinds: 0 .. 13 objects, 14 int[], 15 byte[], 16 boolean[], 17 int[][], 18 Node[], 19 Tree[], 20 Object[] -/
def gc_e (θ : gc_T) (σ : gc_S) (a : Nat) : va_E :=
  if gc_k σ a < 14 then .inr (gc_k σ a, gc_fs σ a (gc_k σ a)) else if gc_k σ a < 17 then .inl (gc_c θ (gc_k σ a), gc_n σ a, .inl (gc_E σ a)) else .inl (gc_c θ (gc_k σ a), gc_n σ a, .inr (.inr (.inr (.inr (gc_Q σ a)))))
abbrev gc_ws (θ : gc_T) (σ : gc_S) : va_W := va_pl (gc_d σ) (gc_e θ σ)
abbrev gc_tys (θ : gc_T) : List (ClassId × FieldType) := [(gc_c θ 14, .int), (gc_c θ 15, .byte), (gc_c θ 16, .boolean), (gc_c θ 17, .array .int), (gc_c θ 18, .object "BranchMender$Node"), (gc_c θ 19, .object "BranchMender$Tree"), (gc_c θ 20, .object "java/lang/Object"), (gc_c θ 21, .object "java/lang/Integer")]
/-- the words that don't ride in lw_all -/
def gc_nest : Cond → Bool
  | .fieldLinkNest .. => true
  | .methodLinkNest .. => true
  | .castable .. => true
  | .declares .. => true
  | .arrayOver (.object _) => true
  | .arrayOver (.array _) => true
  | .privateMethod .. => true
  | _ => false
/-- the heap still has what it had at the start -/
def gc_agree (θ : gc_T) (H : Heap) : Prop := (gc_H θ).size ≤ H.size ∧ ∀ q, q < (gc_H θ).size → H[q]? = (gc_H θ)[q]?
/-- the two empty arrays; the cached Integers -/
def gc_th (θ : gc_T) : Prop := (gc_H θ)[gc_aE θ]? = some (vp_cell (gc_c θ 15) (0, .inl (fun _ => 0))) ∧ (gc_H θ)[gc_aD θ]? = some (vp_cell (gc_c θ 20) (0, .inr (.inr (.inr (.inr (fun _ => none)))))) ∧
  va_P (gc_D θ) gc_cl [(gc_aC θ, .inl (gc_c θ 21, 256, .inr (.inr (.inr (.inr (fun i => some (gc_ch θ i)))))))] (gc_H θ) ∧ ∀ i, i < 256 → va_P (gc_D θ) gc_cl [(gc_ch θ i, .inr (13, [.int (Int32.ofNat i - 128)]))] (gc_H θ)
def gc_lw : List Cond := [.laysStatic "java/lang/Throwable" "UNASSIGNED_STACK" "[Ljava/lang/StackTraceElement;", .laysStatic "java/lang/Throwable" "SUPPRESSED_SENTINEL" "Ljava/util/List;"]
/-- the statics' cell lies in the heap of the start -/
def gc_ls (θ : gc_T) (U : State) : Prop := ∀ H, gc_agree θ H → ∀ w ∈ gc_lw, w.before #[] { U with heap := H } = true
theorem gc_ls.warm {θ : gc_T} {u U : State} (h : u.WarmedH U.vm) (k : gc_ls θ u) : gc_ls θ U := by
  intro H hH w hw
  have k := k H hH w hw
  simp only [gc_lw, List.mem_cons, List.not_mem_nil, or_false] at hw
  rcases hw with rfl | rfl
  · exact Cond.laysStatic_setVm (s := { u with heap := H }) (vm' := U.vm) h.alike k
  · exact Cond.laysStatic_setVm (s := { u with heap := H }) (vm' := U.vm) h.alike k
/-- a NullPointerException is no ArrayIndexOutOfBoundsException -/
def gc_nc (U : State) : Prop := ∀ c d, U.vm.findClass "java/lang/NullPointerException" = some c → U.vm.findClass "java/lang/ArrayIndexOutOfBoundsException" = some d → U.vm.assignable c d = false
theorem gc_nc.warm {u U : State} (h : u.WarmedH U.vm) (k : gc_nc u) : gc_nc U := fun c d h1 h2 => by
  rw [h.alike.assignable]
  exact k c d (by rw [← h.alike.findClass]; exact h1) (by rw [← h.alike.findClass]; exact h2)
def gc_z (θ : gc_T) (U : State) : Prop := va_K (gc_D θ) gc_cl (gc_tys θ) U ∧ (∀ w ∈ lw_tbl, gc_nest w = true → va_Nw w U) ∧ gc_th θ ∧
  (∀ H, gc_agree θ H → va_Z "BranchMender" "EMPTY" "[B" (.ref (gc_aE θ)) (gc_A θ) U H ∧ va_Z "java/util/ArrayList" "DEFAULTCAPACITY_EMPTY_ELEMENTDATA" "[Ljava/lang/Object;" (.ref (gc_aD θ)) (gc_A θ) U H ∧
    va_Z "java/lang/Throwable" "UNASSIGNED_STACK" "[Ljava/lang/StackTraceElement;" (va_rf (gc_aU θ)) (gc_A θ) U H ∧ va_Z "java/lang/Throwable" "SUPPRESSED_SENTINEL" "Ljava/util/List;" (va_rf (gc_aS θ)) (gc_A θ) U H ∧
    va_Z "java/lang/Integer$IntegerCache" "high" "I" (.int 127) (gc_A θ) U H ∧ va_Z "java/lang/Integer$IntegerCache" "cache" "[Ljava/lang/Integer;" (.ref (gc_aC θ)) (gc_A θ) U H) ∧ (∀ w ∈ defaultWords_1, va_Nw w U) ∧ va_Mi "[Ljava/lang/Object;" (gc_aM θ) U ∧ (θ.1).stackTraces = false ∧ gc_ls θ U ∧ gc_nc U
theorem gc_dw : ∀ w ∈ defaultWords_1, (w.onTables && w.keeps) = true := by decide
theorem gc_AOA {t : FieldType} {u U : State} (hvm : u.vm.Alike U.vm) (h : (Cond.arrayOver (.array t)).before #[] u = true) : (Cond.arrayOver (.array t)).before #[] U = true := by
  obtain ⟨comp, c, k, h1, h2, h3, h4, h5⟩ := arrayOverA_spec h
  obtain ⟨k', hk', he⟩ := hvm.2.2 _ _ h3
  have hi : (U.vm.classes.findIdx? fun (x : Class) => match x.kind with | .array component _ => component == comp | _ => false) = some c := by
    refine (va_idx_bare U.vm comp).symm.trans ?_
    rw [hvm.bare_eq]
    exact (va_idx_bare u.vm comp).trans h2
  have hkind : k'.kind = .array comp (.array t) := by rw [he]; exact h4
  have f1 : U.vm.findClass (FieldType.array t).toString = some comp := by rw [hvm.findClass]; exact h1
  have f2 : U.vm.findClass ("[" ++ (FieldType.array t).toString) = some c := by rw [hvm.findClass]; exact h5
  unfold Cond.before Cond.holds
  simp only [Cond.value]
  rw [f1, Option.bind_some]
  refine (congrArg (fun o : Option Nat => (o.bind (fun c => (U.vm.classes[c]?).map fun (k : Class) => match k.kind with | .array _ ty => decide (ty = FieldType.array t) && decide (U.vm.findClass ("[" ++ (FieldType.array t).toString) = some c) | _ => false) == some true)) hi).trans ?_
  simp [hk', hkind, f2]
theorem gc_z_warm (θ : gc_T) (u U : State) (h : u.WarmedH U.vm) (k : gc_z θ u) : gc_z θ U := by
  refine ⟨va_K.moved h.alike k.1, fun w hw hn => ?_, k.2.2.1, fun H hH => ⟨(k.2.2.2.1 H hH).1.moved h.alike, (k.2.2.2.1 H hH).2.1.moved h.alike, (k.2.2.2.1 H hH).2.2.1.moved h.alike, (k.2.2.2.1 H hH).2.2.2.1.moved h.alike, (k.2.2.2.1 H hH).2.2.2.2.1.moved h.alike, (k.2.2.2.1 H hH).2.2.2.2.2.moved h.alike⟩, fun w hw => word_at h (Or.inl (gc_dw w hw)) (k.2.2.2.2.1 w hw), k.2.2.2.2.2.1.moved h.alike, k.2.2.2.2.2.2.1, k.2.2.2.2.2.2.2.1.warm h, k.2.2.2.2.2.2.2.2.warm h⟩
  have h0 := k.2.1 w hw hn
  cases w with
  | fieldLinkNest a i b n d x => exact va_Nw.warmF h h0
  | methodLinkNest a i x y => exact va_Nw.warmM h h0
  | castable a b => exact va_Nw.warmC h h0
  | declares x => exact va_Nw.warmD h h0
  | arrayOver t =>
    cases t with
    | object C => exact va_AO.moved h.alike h0
    | array t => exact gc_AOA h.alike h0
    | _ => simp [gc_nest] at hn
  | privateMethod x => exact va_tabs rfl (rfl : (u.setVm U.vm).vm = U.vm) (by rw [Cond.privateMethod_setVm h.alike]; exact h0)
  | _ => simp [gc_nest] at hn
def gc_w (θ : gc_T) (σ : gc_S) (H : Heap) : Prop :=
  va_P (gc_D θ) gc_cl (gc_ws θ σ) H ∧ va_D (gc_A θ) (gc_ws θ σ) ∧ (∀ q, H.size ≤ q → gc_A θ q) ∧ (∀ q, gc_A θ q → (gc_H θ).size ≤ q) ∧ (gc_H θ).size ≤ H.size ∧ ∀ q, q < (gc_H θ).size → H[q]? = (gc_H θ)[q]?
abbrev gc_O (θ : gc_T) : gx_O gc_S := (θ.1, gc_A θ, gc_w θ, gc_z θ)
/-- what a new heap needs beside its cells comes from the frame -/
theorem gc_w.of {θ : gc_T} {σ0 σ : gc_S} {H0 H : Heap} {locs : List Loc} (h : gc_w θ σ0 H0) (hS : va_S (gc_A θ) H0 H locs) (hP : va_P (gc_D θ) gc_cl (gc_ws θ σ) H) (hD : va_D (gc_A θ) (gc_ws θ σ)) : gc_w θ σ H :=
  ⟨hP, hD, fun q hq => h.2.2.1 q (Nat.le_trans hS.1 hq), h.2.2.2.1, Nat.le_trans h.2.2.2.2.1 hS.1, fun q hq => by rw [hS.2.1 q (Nat.lt_of_lt_of_le hq h.2.2.2.2.1) (fun z => absurd (h.2.2.2.1 q z) (by omega))]; exact h.2.2.2.2.2 q hq⟩
def gc_is (σ : gc_S) (a k : Nat) : Prop := a ∈ gc_d σ ∧ gc_k σ a = k
/-- a node of any kind -/
def gc_isN (σ : gc_S) (a : Nat) : Prop := a ∈ gc_d σ ∧ 8 ≤ gc_k σ a ∧ gc_k σ a ≤ 11
def gc_sI (σ : gc_S) (f a : Nat) (v : Int32) : gc_S := (gc_d σ, gc_k σ, fun g b => if g = f ∧ b = a then v else gc_I σ g b, gc_R σ, gc_E σ, gc_Q σ, gc_n σ)
def gc_sR (σ : gc_S) (f a : Nat) (r : Option Nat) : gc_S := (gc_d σ, gc_k σ, gc_I σ, fun g b => if g = f ∧ b = a then r else gc_R σ g b, gc_E σ, gc_Q σ, gc_n σ)
def gc_sE (σ : gc_S) (a i : Nat) (v : Int32) : gc_S := (gc_d σ, gc_k σ, gc_I σ, gc_R σ, va_up (gc_E σ) a (upd (gc_E σ a) i v), gc_Q σ, gc_n σ)
def gc_sQ (σ : gc_S) (a i : Nat) (r : Option Nat) : gc_S := (gc_d σ, gc_k σ, gc_I σ, gc_R σ, gc_E σ, va_up (gc_Q σ) a (va_up (gc_Q σ a) i r), gc_n σ)
/-- a new cell of kind k and length n, all of it 0 or null -/
def gc_new (σ : gc_S) (a k n : Nat) : gc_S := (gc_d σ ++ [a], va_up (gc_k σ) a k, fun f b => if b = a then 0 else gc_I σ f b, fun f b => if b = a then none else gc_R σ f b, va_up (gc_E σ) a (fun _ => 0), va_up (gc_Q σ) a (fun _ => none), va_up (gc_n σ) a n)
theorem gc_e_obj {θ : gc_T} {σ : gc_S} {a k : Nat} (h : gc_k σ a = k) (hk : k < 14) : gc_e θ σ a = .inr (k, gc_fs σ a k) := by
  unfold gc_e; rw [h, if_pos hk]
theorem gc_e_num {θ : gc_T} {σ : gc_S} {a k : Nat} (h : gc_k σ a = k) (h1 : 14 ≤ k) (h2 : k < 17) : gc_e θ σ a = .inl (gc_c θ k, gc_n σ a, .inl (gc_E σ a)) := by
  unfold gc_e; rw [h, if_neg (by omega), if_pos h2]
theorem gc_e_ref {θ : gc_T} {σ : gc_S} {a k : Nat} (h : gc_k σ a = k) (h1 : 17 ≤ k) : gc_e θ σ a = .inl (gc_c θ k, gc_n σ a, .inr (.inr (.inr (.inr (gc_Q σ a))))) := by
  unfold gc_e; rw [h, if_neg (by omega), if_neg (by omega)]
theorem gc_fs_get (σ : gc_S) (a : Nat) {k j : Nat} (hj : j < gc_N k) : (gc_fs σ a k)[j]? = some (gc_v σ a (gc_b k + j)) := by
  unfold gc_fs; simp [hj]
theorem gc_fs_len (σ : gc_S) (a k : Nat) : (gc_fs σ a k).length = gc_N k := by
  unfold gc_fs; simp
theorem gc_at {θ : gc_T} {σ : gc_S} {a : Nat} (h : a ∈ gc_d σ) : ∃ i : Nat, (gc_ws θ σ)[i]? = some (a, gc_e θ σ a) := va_pl_get (X := []) h
theorem gc_set {θ : gc_T} {σ σ' : gc_S} {a i : Nat} {e : va_E} (hD : va_D (gc_A θ) (gc_ws θ σ)) (h : a ∈ gc_d σ) (hi : (gc_ws θ σ)[i]? = some (a, gc_e θ σ a)) (hd : gc_d σ' = gc_d σ) (he : ∀ b, va_up (gc_e θ σ) a e b = gc_e θ σ' b) : (gc_ws θ σ).set i (a, e) = gc_ws θ σ' := by
  have h1 := va_pl_set (X := []) (e := e) hD h hi
  rw [List.nil_append] at h1
  rw [h1, List.nil_append, va_pl_congr he, ← hd]
theorem gc_up_fld {θ : gc_T} {σ σ' : gc_S} {a k j : Nat} {v : Value} (hk : gc_k σ a = k) (hk14 : k < 14) (hj : j < gc_N k) (h1 : gc_k σ' = gc_k σ) (h2 : gc_E σ' = gc_E σ) (h3 : gc_Q σ' = gc_Q σ) (h4 : gc_n σ' = gc_n σ) (h5 : gc_v σ' a (gc_b k + j) = v) (h6 : ∀ b f, ¬ (b = a ∧ f = gc_b k + j) → gc_v σ' b f = gc_v σ b f) :
    ∀ b, va_up (gc_e θ σ) a (.inr (k, (gc_fs σ a k).set j v)) b = gc_e θ σ' b := by
  intro b
  by_cases hb : b = a
  · subst hb
    rw [va_up_self, gc_e_obj (k := k) (by rw [h1]; exact hk) hk14]
    have : (gc_fs σ b k).set j v = gc_fs σ' b k := by
      apply List.ext_getElem?
      intro i
      by_cases hi : i < gc_N k
      · rw [gc_fs_get σ' b hi]
        by_cases hij : i = j
        · subst hij
          rw [List.getElem?_set_self (by rw [gc_fs_len]; exact hi), h5]
        · rw [List.getElem?_set_ne (Ne.symm hij), gc_fs_get σ b hi, h6 b _ (fun q => hij (by omega))]
      · rw [List.getElem?_eq_none (by rw [List.length_set, gc_fs_len]; omega), List.getElem?_eq_none (by rw [gc_fs_len]; omega)]
    rw [this]
  · rw [va_up_ne _ _ hb]
    have hv : ∀ f, gc_v σ' b f = gc_v σ b f := fun f => h6 b f (fun q => hb q.1)
    unfold gc_e gc_fs
    rw [h1, h2, h3, h4]
    simp only [hv]
theorem gc_sI_v {σ : gc_S} {f a : Nat} {v : Int32} (hr : gc_rf f = false) : gc_v (gc_sI σ f a v) a f = .int v ∧ ∀ b g, ¬ (b = a ∧ g = f) → gc_v (gc_sI σ f a v) b g = gc_v σ b g := by
  refine ⟨?_, fun b g h => ?_⟩
  · unfold gc_v
    rw [hr, if_neg (by decide)]
    show Value.int (if f = f ∧ a = a then v else gc_I σ f a) = _
    rw [if_pos ⟨rfl, rfl⟩]
  · unfold gc_v
    show (if gc_rf g = true then va_rf (gc_R σ g b) else Value.int (if g = f ∧ b = a then v else gc_I σ g b)) = _
    rw [if_neg (c := g = f ∧ b = a) (fun q => h ⟨q.2, q.1⟩)]
theorem gc_sR_v {σ : gc_S} {f a : Nat} {r : Option Nat} (hr : gc_rf f = true) : gc_v (gc_sR σ f a r) a f = va_rf r ∧ ∀ b g, ¬ (b = a ∧ g = f) → gc_v (gc_sR σ f a r) b g = gc_v σ b g := by
  refine ⟨?_, fun b g h => ?_⟩
  · unfold gc_v
    rw [hr, if_pos rfl]
    show va_rf (if f = f ∧ a = a then r else gc_R σ f a) = _
    rw [if_pos ⟨rfl, rfl⟩]
  · unfold gc_v
    show (if gc_rf g = true then va_rf (if g = f ∧ b = a then r else gc_R σ g b) else Value.int (gc_I σ g b)) = _
    rw [if_neg (c := g = f ∧ b = a) (fun q => h ⟨q.2, q.1⟩)]
/-- the picture of a cell depends on what is said of it alone -/
theorem gc_e_congr {θ : gc_T} {σ σ' : gc_S} {b : Nat} (h1 : gc_k σ' b = gc_k σ b) (h2 : gc_E σ' b = gc_E σ b) (h3 : gc_Q σ' b = gc_Q σ b) (h4 : gc_n σ' b = gc_n σ b) (h5 : ∀ f, gc_I σ' f b = gc_I σ f b) (h6 : ∀ f, gc_R σ' f b = gc_R σ f b) : gc_e θ σ b = gc_e θ σ' b := by
  have hv : ∀ f, gc_v σ' b f = gc_v σ b f := fun f => by unfold gc_v; rw [h5, h6]
  unfold gc_e gc_fs
  rw [h1, h2, h3, h4]
  simp only [hv]
theorem gc_up_E {θ : gc_T} {σ : gc_S} {a k i : Nat} {v : Int32} (hk : gc_k σ a = k) (h1 : 14 ≤ k) (h2 : k < 17) : ∀ b, va_up (gc_e θ σ) a (.inl (gc_c θ k, gc_n σ a, .inl (upd (gc_E σ a) i v))) b = gc_e θ (gc_sE σ a i v) b := by
  intro b
  by_cases hb : b = a
  · subst hb
    rw [va_up_self, gc_e_num (σ := gc_sE σ b i v) (k := k) hk h1 h2]
    show _ = Sum.inl (gc_c θ k, gc_n σ b, Sum.inl (va_up (gc_E σ) b (upd (gc_E σ b) i v) b))
    rw [va_up_self]
  · rw [va_up_ne _ _ hb]
    exact gc_e_congr rfl (va_up_ne _ _ hb) rfl rfl (fun _ => rfl) (fun _ => rfl)
theorem gc_up_Q {θ : gc_T} {σ : gc_S} {a k i : Nat} {r : Option Nat} (hk : gc_k σ a = k) (h1 : 17 ≤ k) : ∀ b, va_up (gc_e θ σ) a (.inl (gc_c θ k, gc_n σ a, .inr (.inr (.inr (.inr (va_up (gc_Q σ a) i r)))))) b = gc_e θ (gc_sQ σ a i r) b := by
  intro b
  by_cases hb : b = a
  · subst hb
    rw [va_up_self, gc_e_ref (σ := gc_sQ σ b i r) (k := k) hk h1]
    show _ = Sum.inl (gc_c θ k, gc_n σ b, Sum.inr (Sum.inr (Sum.inr (Sum.inr (va_up (gc_Q σ) b (va_up (gc_Q σ b) i r) b)))))
    rw [va_up_self]
  · rw [va_up_ne _ _ hb]
    exact gc_e_congr rfl rfl (va_up_ne _ _ hb) rfl (fun _ => rfl) (fun _ => rfl)
/-- a new cell beside the others -/
theorem gc_push {θ : gc_T} {σ : gc_S} {a k n : Nat} {e : va_E} (ha : a ∉ gc_d σ) (he : gc_e θ (gc_new σ a k n) a = e) : gc_ws θ σ ++ [(a, e)] = gc_ws θ (gc_new σ a k n) := by
  rw [va_pl_push ha]
  show va_pl _ _ = va_pl (gc_d σ ++ [a]) (gc_e θ (gc_new σ a k n))
  refine va_pl_congr fun b => ?_
  by_cases hb : b = a
  · subst hb
    rw [va_up_self, he]
  · rw [va_up_ne _ _ hb]
    exact gc_e_congr (va_up_ne _ _ hb) (va_up_ne _ _ hb) (va_up_ne _ _ hb) (va_up_ne _ _ hb) (fun _ => if_neg hb) (fun _ => if_neg hb)
