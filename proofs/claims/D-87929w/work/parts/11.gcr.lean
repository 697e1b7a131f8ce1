/-! ROWS OF THE COMPONENT'S WORLD -/
abbrev gc_G (θ : gc_T) (K : gx_K) (M : gx_M) (Post : Outcome → gc_S → Prop) (pc : Nat) (L : List (Nat × Value)) (st : List Value) (σ : gc_S) (bc bs : Nat) : Prop := gx_G (gc_O θ) K M Post pc L st σ bc bs
abbrev gc_K (θ : gc_T) (K : gx_K) (M : gx_M) : Prop := gx_OK (gc_O θ) K M
theorem gc_nar_o (n : String) (r : Option Nat) : narrow (.object n) (va_rf r) = va_rf r ∧ fits (.object n) (va_rf r) = true := by cases r <;> exact ⟨rfl, rfl⟩
theorem gc_nar_a (t : FieldType) (r : Option Nat) : narrow (.array t) (va_rf r) = va_rf r ∧ fits (.array t) (va_rf r) = true := by cases r <;> exact ⟨rfl, rfl⟩
theorem gc_vI {σ : gc_S} {a f : Nat} (h : gc_rf f = false) : gc_v σ a f = .int (gc_I σ f a) := by unfold gc_v; rw [h]; rfl
theorem gc_vR {σ : gc_S} {a f : Nat} (h : gc_rf f = true) : gc_v σ a f = va_rf (gc_R σ f a) := by unfold gc_v; rw [h]; rfl
section GCR
variable {θ : gc_T} {K : gx_K} {M : gx_M} {Post : Outcome → gc_S → Prop} {pc : Nat} {L : List (Nat × Value)} {st : List Value} {σ : gc_S} {bc bs : Nat} {a : Nat}
theorem gc_start (h : gc_K θ K M) : ∃ σ0, gc_w θ σ0 (gx_s K).heap := h.2.2.2.2.2.2.2.2.2.2.2.2
theorem gc_new_ok (h : gc_K θ K M) : ∀ q, (gx_s K).heap.size ≤ q → gc_A θ q := by obtain ⟨σ0, h0⟩ := gc_start h; exact h0.2.2.1
theorem gc_to (h : gc_K θ K M) {σ' : gc_S} {H : Heap} {locs : List Loc} {ws : va_W} (e : ws = gc_ws θ σ') (hP : va_P (gc_D θ) gc_cl ws H) (hD : va_D (gc_A θ) ws) (hS : va_S (gc_A θ) (gx_s K).heap H locs) : gc_w θ σ' H := by
  obtain ⟨σ0, h0⟩ := gc_start h
  subst e
  exact h0.of hS hP hD
section FLD
variable {C own ref host : String} {T : u_T} {N k j idx : Nat}
theorem gc_get (hcl : gc_cl[k]? = some (C, T, N)) (hk : k < 14) (hN : gc_N k = N) (hin : ∀ w ∈ u_ws C T N, w ∈ lw_all) (hj : j < N) (h : gc_K θ K M) (hc : (gx_My M).cls = own) (hl : Cond.fieldLink own idx ref (T j).2.1 (T j).2.2.1 ∈ lw_all)
    (hs : ∀ x, (gx_s K).fieldFound? (T j).1 (T j).2.1 (T j).2.2.1 = some x → (gx_s K).fieldFound? ref (T j).2.1 (T j).2.2.1 = some x) (ha : gc_is σ a k) (d : decode (gx_Mc M) pc = .ok (.getfield idx, 3))
    (kk : gc_G θ K M Post (pc + 3) L (gc_v σ a (gc_b k + j) :: st) σ bc bs) : gc_G θ K M Post pc L (.ref a :: st) σ bc bs := by
  obtain ⟨i, hi⟩ := gc_at (θ := θ) ha.1
  rw [gc_e_obj ha.2 hk] at hi
  exact fun H locs ls c n hL hw hS e1 e2 => va_get h.1 h.2.1 h.2.2.2.2.1 hin (hc ▸ h.2.2.2.1) h.2.2.2.2.2.2.2.1.1 hw.1 i hi hcl j hj (h.2.2.2.2.1 _ hl) hs (gc_fs_get σ a (by rw [hN]; exact hj)) d (kk H locs ls c n hL hw hS e1 e2)
theorem gc_getN (hcl : gc_cl[k]? = some (C, T, N)) (hk : k < 14) (hN : gc_N k = N) (hin : ∀ w ∈ u_ws C T N, w ∈ lw_all) (hj : j < N) (h : gc_K θ K M) (hc : (gx_My M).cls = own) (hl : Cond.fieldLinkNest own idx ref (T j).2.1 (T j).2.2.1 host ∈ lw_tbl)
    (hs : ∀ x, (gx_s K).fieldFound? (T j).1 (T j).2.1 (T j).2.2.1 = some x → (gx_s K).fieldFound? ref (T j).2.1 (T j).2.2.1 = some x) (ha : gc_is σ a k) (d : decode (gx_Mc M) pc = .ok (.getfield idx, 3))
    (kk : gc_G θ K M Post (pc + 3) L (gc_v σ a (gc_b k + j) :: st) σ bc bs) : gc_G θ K M Post pc L (.ref a :: st) σ bc bs := by
  obtain ⟨i, hi⟩ := gc_at (θ := θ) ha.1
  rw [gc_e_obj ha.2 hk] at hi
  exact fun H locs ls c n hL hw hS e1 e2 => va_getN (host := host) h.1 h.2.1 h.2.2.2.2.1 hin (hc ▸ h.2.2.2.1) h.2.2.2.2.2.2.2.1.1 hw.1 i hi hcl j hj (va_Nw.use rfl (h.2.2.2.2.2.2.2.1.2.1 _ hl rfl)) hs (gc_fs_get σ a (by rw [hN]; exact hj)) d (kk H locs ls c n hL hw hS e1 e2)
theorem gc_put {ty0 : Nat → FieldType} {ty : FieldType} {v : Value} {σ' : gc_S} (hcl : gc_cl[k]? = some (C, T, N)) (hk : k < 14) (hN : gc_N k = N) (hin : ∀ w ∈ u_ws C T N, w ∈ lw_all) (hty : ∀ k, k < N → parseFieldDescriptor (T k).2.2.1 = some (ty0 k)) (hnm : ∀ a, a < N → ∀ b, b < N → a ≠ b → (T a).2.1 ≠ (T b).2.1) (hj : j < N) (h : gc_K θ K M) (hc : (gx_My M).cls = own) (hl : Cond.fieldLink own idx ref (T j).2.1 (T j).2.2.1 ∈ lw_all)
    (hs : ∀ x, (gx_s K).fieldFound? (T j).1 (T j).2.1 (T j).2.2.1 = some x → (gx_s K).fieldFound? ref (T j).2.1 (T j).2.2.1 = some x) (hf : (T j).2.2.2 = false) (hd : parseFieldDescriptor (T j).2.2.1 = some ty) (hn : narrow ty v = v) (ht : fits ty v = true) (ha : gc_is σ a k)
    (h1 : gc_k σ' = gc_k σ) (h2 : gc_E σ' = gc_E σ) (h3 : gc_Q σ' = gc_Q σ) (h4 : gc_n σ' = gc_n σ) (h0 : gc_d σ' = gc_d σ) (h5 : gc_v σ' a (gc_b k + j) = v) (h6 : ∀ b f, ¬ (b = a ∧ f = gc_b k + j) → gc_v σ' b f = gc_v σ b f)
    (d : decode (gx_Mc M) pc = .ok (.putfield idx, 3)) (kk : gc_G θ K M Post (pc + 3) L st σ' bc bs) : gc_G θ K M Post pc L (v :: .ref a :: st) σ bc bs := by
  obtain ⟨i, hi⟩ := gc_at (θ := θ) ha.1
  have hi' := hi
  rw [gc_e_obj ha.2 hk] at hi
  exact fun H locs ls c n hL hw hS e1 e2 => va_put h.1 h.2.1 h.2.2.2.2.1 hin ty0 hty hnm (hc ▸ h.2.2.2.1) h.2.2.2.2.2.2.2.1.1 hw.1 hw.2.1 hS i hi hcl j hj (h.2.2.2.2.1 _ hl) hs hf hd hn ht (by rw [gc_fs_len, hN]; exact hj) d
    (fun H1 locs1 hP hD hS => kk H1 locs1 ls c n hL (gc_to h (gc_set hw.2.1 ha.1 hi' h0 (gc_up_fld ha.2 hk (by rw [hN]; exact hj) h1 h2 h3 h4 h5 h6)) hP hD hS) hS e1 e2)
theorem gc_putN {ty0 : Nat → FieldType} {ty : FieldType} {v : Value} {σ' : gc_S} (hcl : gc_cl[k]? = some (C, T, N)) (hk : k < 14) (hN : gc_N k = N) (hin : ∀ w ∈ u_ws C T N, w ∈ lw_all) (hty : ∀ k, k < N → parseFieldDescriptor (T k).2.2.1 = some (ty0 k)) (hnm : ∀ a, a < N → ∀ b, b < N → a ≠ b → (T a).2.1 ≠ (T b).2.1) (hj : j < N) (h : gc_K θ K M) (hc : (gx_My M).cls = own) (hl : Cond.fieldLinkNest own idx ref (T j).2.1 (T j).2.2.1 host ∈ lw_tbl)
    (hs : ∀ x, (gx_s K).fieldFound? (T j).1 (T j).2.1 (T j).2.2.1 = some x → (gx_s K).fieldFound? ref (T j).2.1 (T j).2.2.1 = some x) (hf : (T j).2.2.2 = false) (hd : parseFieldDescriptor (T j).2.2.1 = some ty) (hn : narrow ty v = v) (ht : fits ty v = true) (ha : gc_is σ a k)
    (h1 : gc_k σ' = gc_k σ) (h2 : gc_E σ' = gc_E σ) (h3 : gc_Q σ' = gc_Q σ) (h4 : gc_n σ' = gc_n σ) (h0 : gc_d σ' = gc_d σ) (h5 : gc_v σ' a (gc_b k + j) = v) (h6 : ∀ b f, ¬ (b = a ∧ f = gc_b k + j) → gc_v σ' b f = gc_v σ b f)
    (d : decode (gx_Mc M) pc = .ok (.putfield idx, 3)) (kk : gc_G θ K M Post (pc + 3) L st σ' bc bs) : gc_G θ K M Post pc L (v :: .ref a :: st) σ bc bs := by
  obtain ⟨i, hi⟩ := gc_at (θ := θ) ha.1
  have hi' := hi
  rw [gc_e_obj ha.2 hk] at hi
  exact fun H locs ls c n hL hw hS e1 e2 => va_putN (host := host) h.1 h.2.1 h.2.2.2.2.1 hin ty0 hty hnm (hc ▸ h.2.2.2.1) h.2.2.2.2.2.2.2.1.1 hw.1 hw.2.1 hS i hi hcl j hj (va_Nw.use rfl (h.2.2.2.2.2.2.2.1.2.1 _ hl rfl)) hs hf hd hn ht (by rw [gc_fs_len, hN]; exact hj) d
    (fun H1 locs1 hP hD hS => kk H1 locs1 ls c n hL (gc_to h (gc_set hw.2.1 ha.1 hi' h0 (gc_up_fld ha.2 hk (by rw [hN]; exact hj) h1 h2 h3 h4 h5 h6)) hP hD hS) hS e1 e2)
theorem gc_putF {ty0 : Nat → FieldType} {ty : FieldType} {v : Value} {σ' : gc_S} (hcl : gc_cl[k]? = some (C, T, N)) (hk : k < 14) (hN : gc_N k = N) (hin : ∀ w ∈ u_ws C T N, w ∈ lw_all) (hty : ∀ k, k < N → parseFieldDescriptor (T k).2.2.1 = some (ty0 k)) (hnm : ∀ a, a < N → ∀ b, b < N → a ≠ b → (T a).2.1 ≠ (T b).2.1) (hj : j < N) (h : gc_K θ K M) (hc : (gx_My M).cls = own) (hi2 : (gx_My M).name = "<init>") (hl : Cond.fieldLink own idx ref (T j).2.1 (T j).2.2.1 ∈ lw_all)
    (hs : ∀ x, (gx_s K).fieldFound? (T j).1 (T j).2.1 (T j).2.2.1 = some x → (gx_s K).fieldFound? ref (T j).2.1 (T j).2.2.1 = some x) (hf : (T j).2.2.2 = true) (ho : (T j).1 = own) (hd : parseFieldDescriptor (T j).2.2.1 = some ty) (hn : narrow ty v = v) (ht : fits ty v = true) (ha : gc_is σ a k)
    (h1 : gc_k σ' = gc_k σ) (h2 : gc_E σ' = gc_E σ) (h3 : gc_Q σ' = gc_Q σ) (h4 : gc_n σ' = gc_n σ) (h0 : gc_d σ' = gc_d σ) (h5 : gc_v σ' a (gc_b k + j) = v) (h6 : ∀ b f, ¬ (b = a ∧ f = gc_b k + j) → gc_v σ' b f = gc_v σ b f)
    (d : decode (gx_Mc M) pc = .ok (.putfield idx, 3)) (kk : gc_G θ K M Post (pc + 3) L st σ' bc bs) : gc_G θ K M Post pc L (v :: .ref a :: st) σ bc bs := by
  obtain ⟨i, hi⟩ := gc_at (θ := θ) ha.1
  have hi' := hi
  rw [gc_e_obj ha.2 hk] at hi
  exact fun H locs ls c n hL hw hS e1 e2 => va_putF h.1 h.2.1 h.2.2.2.2.1 hin ty0 hty hnm (hc ▸ h.2.2.2.1) h.2.2.2.2.2.2.2.1.1 hw.1 hw.2.1 hS i hi hcl j hj (h.2.2.2.2.1 _ hl) hs hf (h.2.2.2.2.2.2.2.2.2.1.trans hi2) ho hd hn ht (by rw [gc_fs_len, hN]; exact hj) d
    (fun H1 locs1 hP hD hS => kk H1 locs1 ls c n hL (gc_to h (gc_set hw.2.1 ha.1 hi' h0 (gc_up_fld ha.2 hk (by rw [hN]; exact hj) h1 h2 h3 h4 h5 h6)) hP hD hS) hS e1 e2)
end FLD
/-! arrays of numbers -/
theorem gc_iald (h : gc_K θ K M) (ha : gc_is σ a 14) {i : Int32} (hi : vp_in i (gc_n σ a)) (d : decode (gx_Mc M) pc = .ok (.iaload, 1)) (kk : gc_G θ K M Post (pc + 1) L (.int (gc_E σ a i.toNatClampNeg) :: st) σ bc bs) : gc_G θ K M Post pc L (.int i :: .ref a :: st) σ bc bs := by
  obtain ⟨q, hq⟩ := gc_at (θ := θ) ha.1
  rw [gc_e_num ha.2 (by decide) (by decide)] at hq
  exact fun H locs ls c n hL hw hS e1 e2 => va_iald h.1 h.2.1 h.2.2.2.2.2.2.2.1.1 hw.1 q 0 hq rfl hi d (kk H locs ls c n hL hw hS e1 e2)
theorem gc_bald (h : gc_K θ K M) (ha : gc_is σ a 15) {i : Int32} (hi : vp_in i (gc_n σ a)) (d : decode (gx_Mc M) pc = .ok (.baload, 1)) (kk : gc_G θ K M Post (pc + 1) L (.int (gc_E σ a i.toNatClampNeg) :: st) σ bc bs) : gc_G θ K M Post pc L (.int i :: .ref a :: st) σ bc bs := by
  obtain ⟨q, hq⟩ := gc_at (θ := θ) ha.1
  rw [gc_e_num ha.2 (by decide) (by decide)] at hq
  exact fun H locs ls c n hL hw hS e1 e2 => va_bald h.1 h.2.1 h.2.2.2.2.2.2.2.1.1 hw.1 q 1 hq rfl hi d (kk H locs ls c n hL hw hS e1 e2)
theorem gc_zald (h : gc_K θ K M) (ha : gc_is σ a 16) {i : Int32} (hi : vp_in i (gc_n σ a)) (d : decode (gx_Mc M) pc = .ok (.baload, 1)) (kk : gc_G θ K M Post (pc + 1) L (.int (gc_E σ a i.toNatClampNeg) :: st) σ bc bs) : gc_G θ K M Post pc L (.int i :: .ref a :: st) σ bc bs := by
  obtain ⟨q, hq⟩ := gc_at (θ := θ) ha.1
  rw [gc_e_num ha.2 (by decide) (by decide)] at hq
  exact fun H locs ls c n hL hw hS e1 e2 => va_zald h.1 h.2.1 h.2.2.2.2.2.2.2.1.1 hw.1 q 2 hq rfl hi d (kk H locs ls c n hL hw hS e1 e2)
theorem gc_iast (h : gc_K θ K M) (ha : gc_is σ a 14) {i v : Int32} (hi : vp_in i (gc_n σ a)) (d : decode (gx_Mc M) pc = .ok (.iastore, 1)) (kk : gc_G θ K M Post (pc + 1) L st (gc_sE σ a i.toNatClampNeg v) bc bs) : gc_G θ K M Post pc L (.int v :: .int i :: .ref a :: st) σ bc bs := by
  obtain ⟨q, hq⟩ := gc_at (θ := θ) ha.1
  have hq' := hq
  rw [gc_e_num ha.2 (by decide) (by decide)] at hq
  exact fun H locs ls c n hL hw hS e1 e2 => va_iast h.1 h.2.1 h.2.2.2.2.2.2.2.1.1 hw.1 hw.2.1 hS q 0 hq rfl hi d (fun H1 locs1 hP hD hS => kk H1 locs1 ls c n hL (gc_to h (gc_set hw.2.1 ha.1 hq' rfl (gc_up_E ha.2 (by decide) (by decide))) hP hD hS) hS e1 e2)
theorem gc_bast (h : gc_K θ K M) (ha : gc_is σ a 15) {i v : Int32} (hi : vp_in i (gc_n σ a)) (d : decode (gx_Mc M) pc = .ok (.bastore, 1)) (kk : gc_G θ K M Post (pc + 1) L st (gc_sE σ a i.toNatClampNeg (vp_nar .byte v)) bc bs) : gc_G θ K M Post pc L (.int v :: .int i :: .ref a :: st) σ bc bs := by
  obtain ⟨q, hq⟩ := gc_at (θ := θ) ha.1
  have hq' := hq
  rw [gc_e_num ha.2 (by decide) (by decide)] at hq
  exact fun H locs ls c n hL hw hS e1 e2 => va_bast h.1 h.2.1 h.2.2.2.2.2.2.2.1.1 hw.1 hw.2.1 hS q 1 hq rfl hi d (fun H1 locs1 hP hD hS => kk H1 locs1 ls c n hL (gc_to h (gc_set hw.2.1 ha.1 hq' rfl (gc_up_E ha.2 (by decide) (by decide))) hP hD hS) hS e1 e2)
theorem gc_zast (h : gc_K θ K M) (ha : gc_is σ a 16) {i v : Int32} (hi : vp_in i (gc_n σ a)) (d : decode (gx_Mc M) pc = .ok (.bastore, 1)) (kk : gc_G θ K M Post (pc + 1) L st (gc_sE σ a i.toNatClampNeg (vp_nar .boolean v)) bc bs) : gc_G θ K M Post pc L (.int v :: .int i :: .ref a :: st) σ bc bs := by
  obtain ⟨q, hq⟩ := gc_at (θ := θ) ha.1
  have hq' := hq
  rw [gc_e_num ha.2 (by decide) (by decide)] at hq
  exact fun H locs ls c n hL hw hS e1 e2 => va_zast h.1 h.2.1 h.2.2.2.2.2.2.2.1.1 hw.1 hw.2.1 hS q 2 hq rfl hi d (fun H1 locs1 hP hD hS => kk H1 locs1 ls c n hL (gc_to h (gc_set hw.2.1 ha.1 hq' rfl (gc_up_E ha.2 (by decide) (by decide))) hP hD hS) hS e1 e2)
/-! arrays of references -/
/-- an array of a kind of objects -/
theorem gc_aald {k t : Nat} {E : String} (hk : 17 ≤ k) (ht : (gc_tys θ)[t]? = some (gc_c θ k, .object E)) (h : gc_K θ K M) (ha : gc_is σ a k) {i : Int32} (hi : vp_in i (gc_n σ a)) (d : decode (gx_Mc M) pc = .ok (.aaload, 1)) (kk : gc_G θ K M Post (pc + 1) L (va_rf (gc_Q σ a i.toNatClampNeg) :: st) σ bc bs) : gc_G θ K M Post pc L (.int i :: .ref a :: st) σ bc bs := by
  obtain ⟨q, hq⟩ := gc_at (θ := θ) ha.1
  rw [gc_e_ref ha.2 hk] at hq
  exact fun H locs ls c n hL hw hS e1 e2 => va_aldq h.1 h.2.1 h.2.2.2.2.2.2.2.1.1 hw.1 q t hq ht hi d (kk H locs ls c n hL hw hS e1 e2)
/-- int[][] -/
theorem gc_aald17 (h : gc_K θ K M) (ha : gc_is σ a 17) {i : Int32} (hi : vp_in i (gc_n σ a)) (d : decode (gx_Mc M) pc = .ok (.aaload, 1)) (kk : gc_G θ K M Post (pc + 1) L (va_rf (gc_Q σ a i.toNatClampNeg) :: st) σ bc bs) : gc_G θ K M Post pc L (.int i :: .ref a :: st) σ bc bs := by
  obtain ⟨q, hq⟩ := gc_at (θ := θ) ha.1
  rw [gc_e_ref ha.2 (by decide)] at hq
  intro H locs ls c n hL hw hS e1 e2
  have hlt : i.toNatClampNeg < gc_n σ a := Nat.not_le.mp fun q => hi (Or.inr q)
  exact W.aald (v := va_rf (gc_Q σ a i.toNatClampNeg)) h.1 h.2.1 (hw.1 q _ hq) ((h.2.2.2.2.2.2.2.1.1.2 3 _ rfl).1 (gc_n σ a) (fun j => va_rf (gc_Q σ a j))) rfl (fun q => by cases q) (by show ¬ (i < 0 ∨ (arrV _ _ _).slots.size ≤ _); rw [arrV_size]; exact hi) (by show (arrV _ _ _).slots[_]? = _; rw [arrV_read _ _ hlt]) rfl rfl d (kk H locs ls c n hL hw hS e1 e2)
/-- an object of a class that can be cast to the array's -/
theorem gc_aast {k t kv v : Nat} {E : String} {r : vw_C} (hk : 17 ≤ k) (ht : (gc_tys θ)[t]? = some (gc_c θ k, .object E)) (hkv : kv < 14) (hr : gc_cl[kv]? = some r) (hca : Cond.castable r.1 E ∈ lw_tbl) (h : gc_K θ K M) (ha : gc_is σ a k) (hv : gc_is σ v kv) {i : Int32} (hi : vp_in i (gc_n σ a)) (d : decode (gx_Mc M) pc = .ok (.aastore, 1)) (kk : gc_G θ K M Post (pc + 1) L st (gc_sQ σ a i.toNatClampNeg (some v)) bc bs) : gc_G θ K M Post pc L (.ref v :: .int i :: .ref a :: st) σ bc bs := by
  obtain ⟨q, hq⟩ := gc_at (θ := θ) ha.1
  obtain ⟨q2, hq2⟩ := gc_at (θ := θ) hv.1
  have hq' := hq
  rw [gc_e_ref ha.2 hk] at hq
  rw [gc_e_obj hv.2 hkv] at hq2
  exact fun H locs ls c n hL hw hS e1 e2 => va_astqO h.1 h.2.1 h.2.2.2.2.2.2.2.1.1 hw.1 hw.2.1 hS q t q2 kv hq ht (h.2.2.2.2.2.2.2.1.2.1 _ hca rfl) hq2 hr hi d (fun H1 locs1 hP hD hS => kk H1 locs1 ls c n hL (gc_to h (gc_set hw.2.1 ha.1 hq' rfl (gc_up_Q ha.2 hk)) hP hD hS) hS e1 e2)
/-- of the array's own class -/
theorem gc_aastE {k t kv v : Nat} {r : vw_C} (hk : 17 ≤ k) (ht : (gc_tys θ)[t]? = some (gc_c θ k, .object r.1)) (hkv : kv < 14) (hr : gc_cl[kv]? = some r) (h : gc_K θ K M) (ha : gc_is σ a k) (hv : gc_is σ v kv) {i : Int32} (hi : vp_in i (gc_n σ a)) (d : decode (gx_Mc M) pc = .ok (.aastore, 1)) (kk : gc_G θ K M Post (pc + 1) L st (gc_sQ σ a i.toNatClampNeg (some v)) bc bs) : gc_G θ K M Post pc L (.ref v :: .int i :: .ref a :: st) σ bc bs := by
  obtain ⟨q, hq⟩ := gc_at (θ := θ) ha.1
  obtain ⟨q2, hq2⟩ := gc_at (θ := θ) hv.1
  have hq' := hq
  rw [gc_e_ref ha.2 hk] at hq
  rw [gc_e_obj hv.2 hkv] at hq2
  exact fun H locs ls c n hL hw hS e1 e2 => va_astq h.1 h.2.1 h.2.2.2.2.2.2.2.1.1 hw.1 hw.2.1 hS q t q2 kv hq ht hq2 hr hi d (fun H1 locs1 hP hD hS => kk H1 locs1 ls c n hL (gc_to h (gc_set hw.2.1 ha.1 hq' rfl (gc_up_Q ha.2 hk)) hP hD hS) hS e1 e2)
theorem gc_aastN {k t : Nat} {E : String} (hk : 17 ≤ k) (ht : (gc_tys θ)[t]? = some (gc_c θ k, .object E)) (h : gc_K θ K M) (ha : gc_is σ a k) {i : Int32} (hi : vp_in i (gc_n σ a)) (d : decode (gx_Mc M) pc = .ok (.aastore, 1)) (kk : gc_G θ K M Post (pc + 1) L st (gc_sQ σ a i.toNatClampNeg none) bc bs) : gc_G θ K M Post pc L (.null :: .int i :: .ref a :: st) σ bc bs := by
  obtain ⟨q, hq⟩ := gc_at (θ := θ) ha.1
  have hq' := hq
  rw [gc_e_ref ha.2 hk] at hq
  exact fun H locs ls c n hL hw hS e1 e2 => va_astqN h.1 h.2.1 h.2.2.2.2.2.2.2.1.1 hw.1 hw.2.1 hS q t hq ht hi d (fun H1 locs1 hP hD hS => kk H1 locs1 ls c n hL (gc_to h (gc_set hw.2.1 ha.1 hq' rfl (gc_up_Q ha.2 hk)) hP hD hS) hS e1 e2)
theorem gc_alen {k t : Nat} {ty : FieldType} (hk : 14 ≤ k) (ht : (gc_tys θ)[t]? = some (gc_c θ k, ty)) (h : gc_K θ K M) (ha : gc_is σ a k) (d : decode (gx_Mc M) pc = .ok (.arraylength, 1)) (kk : gc_G θ K M Post (pc + 1) L (.int (Int32.ofNat (gc_n σ a)) :: st) σ bc bs) : gc_G θ K M Post pc L (.ref a :: st) σ bc bs := by
  obtain ⟨q, hq⟩ := gc_at (θ := θ) ha.1
  by_cases h17 : k < 17
  · rw [gc_e_num ha.2 hk h17] at hq
    exact fun H locs ls c n hL hw hS e1 e2 => va_alen h.1 h.2.1 h.2.2.2.2.2.2.2.1.1 hw.1 q t hq ht rfl d (kk H locs ls c n hL hw hS e1 e2)
  · rw [gc_e_ref ha.2 (by omega)] at hq
    exact fun H locs ls c n hL hw hS e1 e2 => va_alen h.1 h.2.1 h.2.2.2.2.2.2.2.1.1 hw.1 q t hq ht rfl d (kk H locs ls c n hL hw hS e1 e2)
/-! new cells -/
theorem gc_obj {C own : String} {T : u_T} {N k idx : Nat} {ty0 : Nat → FieldType} (hcl : gc_cl[k]? = some (C, T, N)) (hk : k < 14) (hN : gc_N k = N) (hin : ∀ w ∈ u_ws C T N, w ∈ lw_all) (hty : ∀ k, k < N → parseFieldDescriptor (T k).2.2.1 = some (ty0 k)) (hdef : ∀ j, j < N → defaultValue (ty0 j) = if gc_rf (gc_b k + j) = true then .null else .int 0)
    (h : gc_K θ K M) (hc : (gx_My M).cls = own) (q1 : Cond.classLink own idx C ∈ lw_all) (q2 : Cond.instantiable C N ∈ lw_all) (q3 : Cond.initialized C ∈ lw_all) (d : decode (gx_Mc M) pc = .ok (.new idx, 3)) (hbc : 1 ≤ bc) (hbs : N ≤ bs)
    (kk : ∀ q, q ∉ gc_d σ → gc_A θ q → gc_G θ K M Post (pc + 3) L (.ref q :: st) (gc_new σ q k 0) (bc - 1) (bs - N)) : gc_G θ K M Post pc L st σ bc bs := by
  intro H locs ls c n hL hw hS e1 e2
  have hRM := h.2.2.2.2.2.2.2.2.1
  refine va_new (fs := gc_fs (gc_new σ H.size k 0) H.size k) h.1 h.2.1 h.2.2.2.2.1 hin ty0 hty (hc ▸ h.2.2.2.1) (h.2.2.2.2.1 _ q1) (h.2.2.2.2.1 _ q2) (h.2.2.2.2.1 _ q3) h.2.2.2.2.2.2.2.1.1 hw.1 hw.2.1 hS (gc_new_ok h) hcl ?_ (by rw [hRM]; omega) (by rw [hRM]; omega) d ?_
  · intro j hj
    rw [hdef j hj]
    have := gc_fs_get (gc_new σ H.size k 0) H.size (k := k) (j := j) (by rw [hN]; exact hj)
    unfold vp_V
    rw [List.getD_eq_getElem?_getD, this]
    show _ = gc_v _ _ _
    unfold gc_v
    show _ = if gc_rf (gc_b k + j) = true then va_rf (if H.size = H.size then none else gc_R σ (gc_b k + j) H.size) else Value.int (if H.size = H.size then 0 else gc_I σ (gc_b k + j) H.size)
    rw [if_pos rfl, if_pos rfl]
    rfl
  · intro q H1 hP hD hS
    have hq : q ∉ gc_d σ := va_pl_fresh2 (X := []) hD
    have hAq : gc_A θ q := hD.2 (gc_ws θ σ).length (q, _) (by rw [List.getElem?_append_right (Nat.le_refl _), Nat.sub_self]; rfl)
    have he : gc_ws θ σ ++ [(q, .inr (k, gc_fs (gc_new σ H.size k 0) H.size k))] = gc_ws θ (gc_new σ q k 0) := by
      refine gc_push hq ?_
      rw [gc_e_obj (k := k) (va_up_self _ _ _) hk]
      have : gc_fs (gc_new σ q k 0) q k = gc_fs (gc_new σ H.size k 0) H.size k := by
        unfold gc_fs gc_v
        show List.map (fun j => if gc_rf (gc_b k + j) = true then va_rf (if q = q then none else gc_R σ (gc_b k + j) q) else Value.int (if q = q then 0 else gc_I σ (gc_b k + j) q)) _ = List.map (fun j => if gc_rf (gc_b k + j) = true then va_rf (if H.size = H.size then none else gc_R σ (gc_b k + j) H.size) else Value.int (if H.size = H.size then 0 else gc_I σ (gc_b k + j) H.size)) _
        simp only [if_true]
      rw [this]
    exact kk q hq hAq H1 locs ls _ _ hL (gc_to h he hP hD hS) hS (by omega) (by omega)
/-- the class of an array is one -/
theorem gc_one {s : State} {cA cB : ClassId} {ty : FieldType} (h1 : va_RA s cA ty) (h2 : va_RA s cB ty) : cA = cB := by
  cases ty with
  | object C =>
    obtain ⟨_, _, -, -, -, a⟩ := h1
    obtain ⟨_, _, -, -, -, b⟩ := h2
    exact Option.some.inj (a.symm.trans b)
  | _ => exact Option.some.inj (h1.symm.trans h2)
theorem gc_newa {k t : Nat} {ty : FieldType} {atype : ArrayType} (hk : 14 ≤ k) (hk2 : k < 17) (ht : (gc_tys θ)[t]? = some (gc_c θ k, ty)) (hty : newarray.typeOf atype = ty) (hdf : defaultValue ty = .int 0) (hcb : componentBytes ty ≤ 4) (q1 : Cond.arrayClass (newarray.typeOf atype) ∈ lw_all)
    (h : gc_K θ K M) {i : Int32} (hi : ¬ i < 0) (hm : i.toNatClampNeg ≤ 100000) (d : decode (gx_Mc M) pc = .ok (.newarray atype, 2)) (hbc : 1 ≤ bc) (hbs : i.toNatClampNeg ≤ bs)
    (kk : ∀ q, q ∉ gc_d σ → gc_A θ q → gc_G θ K M Post (pc + 2) L (.ref q :: st) (gc_new σ q k i.toNatClampNeg) (bc - 1) (bs - i.toNatClampNeg)) : gc_G θ K M Post pc L (.int i :: st) σ bc bs := by
  intro H locs ls c n hL hw hS e1 e2
  have hRM := h.2.2.2.2.2.2.2.2.1
  have hK := h.2.2.2.2.2.2.2.1.1
  refine va_newa (a0 := (i.toNatClampNeg, .inl (fun _ => 0))) h.1 h.2.1 (h.2.2.2.2.1 _ q1) hty hK hw.1 hw.2.1 hS (gc_new_ok h) (fun cA => by rw [vp_cell_i, hdf]) hi rfl (by have := Nat.mul_le_mul hm hcb; omega) (by rw [hRM]; omega) (by rw [hRM]; omega) d ?_
  intro q cA H1 hK1 hP hD hS
  have hcA : cA = gc_c θ k := gc_one (hK1.2 (gc_tys θ).length (cA, ty) (by rw [List.getElem?_append_right (Nat.le_refl _), Nat.sub_self]; rfl)).2 (hK.2 t _ ht).2
  subst hcA
  have hq : q ∉ gc_d σ := va_pl_fresh2 (X := []) hD
  have hAq : gc_A θ q := hD.2 (gc_ws θ σ).length (q, _) (by rw [List.getElem?_append_right (Nat.le_refl _), Nat.sub_self]; rfl)
  refine kk q hq hAq H1 locs ls _ _ hL (gc_to h (gc_push hq ?_) hP hD hS) hS (by omega) (by omega)
  rw [gc_e_num (k := k) (va_up_self _ _ _) hk hk2]
  show Sum.inl (gc_c θ k, va_up (gc_n σ) q i.toNatClampNeg q, Sum.inl (va_up (gc_E σ) q (fun _ => 0) q)) = _
  rw [va_up_self, va_up_self]
end GCR
theorem gc_recv {θ : gc_T} {K : gx_K} {M : gx_M} {σ : gc_S} {a k : Nat} {r : vw_C} (h : gc_K θ K M) (hr : gc_cl[k]? = some r) (ha : gc_is σ a k) (hk : k < 14) : ∀ H, gx_w (gc_O θ) σ H → ∃ cell : Cell, H[a]? = some cell ∧ cell.vm.isStatics = false ∧ (gx_s K).vm.findClass r.1 = some cell.cls := by
  intro H hw
  obtain ⟨i, hi⟩ := gc_at (θ := θ) ha.1
  rw [gc_e_obj ha.2 hk] at hi
  exact va_recv h.2.2.2.2.2.2.2.1.1 hw.1 hr hi
