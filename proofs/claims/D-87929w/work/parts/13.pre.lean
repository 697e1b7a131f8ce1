set_option maxRecDepth 100000
theorem gc_aast18 {θ : gc_T} {K : gx_K} {M : gx_M} {Post : Outcome → gc_S → Prop} {pc : Nat} {L : List (Nat × Value)} {st : List Value} {σ : gc_S} {bc bs a : Nat} {r : Option Nat} (h : gc_K θ K M) (ha : gc_is σ a 18) {i : Int32} (hi : vp_in i (gc_n σ a)) (hv : ∀ v, r = some v → gc_isN σ v) (d : decode (gx_Mc M) pc = .ok (.aastore, 1)) (kk : gc_G θ K M Post (pc + 1) L st (gc_sQ σ a i.toNatClampNeg r) bc bs) : gc_G θ K M Post pc L (va_rf r :: .int i :: .ref a :: st) σ bc bs := by
  cases r with
  | none => exact gc_aastN (k := 18) (t := 4) (by decide) rfl h ha hi d kk
  | some v =>
    have hv := hv v rfl
    have hk : gc_k σ v = 8 ∨ gc_k σ v = 9 ∨ gc_k σ v = 10 ∨ gc_k σ v = 11 := by have := hv.2; omega
    rcases hk with hk | hk | hk | hk
    · exact gc_aast (k := 18) (t := 4) (kv := 8) (by decide) rfl (by decide) rfl q1639 h ha ⟨hv.1, hk⟩ hi d kk
    · exact gc_aast (k := 18) (t := 4) (kv := 9) (by decide) rfl (by decide) rfl q1638 h ha ⟨hv.1, hk⟩ hi d kk
    · exact gc_aast (k := 18) (t := 4) (kv := 10) (by decide) rfl (by decide) rfl q1640 h ha ⟨hv.1, hk⟩ hi d kk
    · exact gc_aast (k := 18) (t := 4) (kv := 11) (by decide) rfl (by decide) rfl q1641 h ha ⟨hv.1, hk⟩ hi d kk
theorem gc_aast19 {θ : gc_T} {K : gx_K} {M : gx_M} {Post : Outcome → gc_S → Prop} {pc : Nat} {L : List (Nat × Value)} {st : List Value} {σ : gc_S} {bc bs a : Nat} {r : Option Nat} (h : gc_K θ K M) (ha : gc_is σ a 19) {i : Int32} (hi : vp_in i (gc_n σ a)) (hv : ∀ v, r = some v → gc_is σ v 7) (d : decode (gx_Mc M) pc = .ok (.aastore, 1)) (kk : gc_G θ K M Post (pc + 1) L st (gc_sQ σ a i.toNatClampNeg r) bc bs) : gc_G θ K M Post pc L (va_rf r :: .int i :: .ref a :: st) σ bc bs := by
  cases r with
  | none => exact gc_aastN (k := 19) (t := 5) (by decide) rfl h ha hi d kk
  | some v => exact gc_aastE (k := 19) (t := 5) (kv := 7) (r := (RX8, TX8, 5)) (by decide) rfl (by decide) rfl h ha (hv v rfl) hi d kk
theorem gc_aast20 {θ : gc_T} {K : gx_K} {M : gx_M} {Post : Outcome → gc_S → Prop} {pc : Nat} {L : List (Nat × Value)} {st : List Value} {σ : gc_S} {bc bs a : Nat} {r : Option Nat} (h : gc_K θ K M) (ha : gc_is σ a 20) {i : Int32} (hi : vp_in i (gc_n σ a)) (hv : ∀ v, r = some v → gc_isV θ σ v) (d : decode (gx_Mc M) pc = .ok (.aastore, 1)) (kk : gc_G θ K M Post (pc + 1) L st (gc_sQ σ a i.toNatClampNeg r) bc bs) : gc_G θ K M Post pc L (va_rf r :: .int i :: .ref a :: st) σ bc bs := by
  cases r with
  | none => exact gc_aastN (k := 20) (t := 6) (by decide) rfl h ha hi d kk
  | some v => exact gc_aastV h q1653 q1654 q1655 q1656 q1659 ha (hv v rfl) hi d kk
theorem gc_ialdE {θ : gc_T} {K : gx_K} {M : gx_M} {Post : Outcome → gc_S → Prop} {pc : Nat} {L : List (Nat × Value)} {st : List Value} {σ : gc_S} {bc bs a : Nat} {r : Option Nat} (h : gc_K θ K M) (e : r = some a) (ha : gc_is σ a 14) {i : Int32} (hi : vp_in i (gc_n σ a)) (d : decode (gx_Mc M) pc = .ok (.iaload, 1)) (kk : gc_G θ K M Post (pc + 1) L (.int (gc_E σ a i.toNatClampNeg) :: st) σ bc bs) : gc_G θ K M Post pc L (.int i :: va_rf r :: st) σ bc bs := by
  subst e; exact gc_iald h ha hi d kk
theorem gc_baldE {θ : gc_T} {K : gx_K} {M : gx_M} {Post : Outcome → gc_S → Prop} {pc : Nat} {L : List (Nat × Value)} {st : List Value} {σ : gc_S} {bc bs a : Nat} {r : Option Nat} (h : gc_K θ K M) (e : r = some a) (ha : gc_is σ a 15) {i : Int32} (hi : vp_in i (gc_n σ a)) (d : decode (gx_Mc M) pc = .ok (.baload, 1)) (kk : gc_G θ K M Post (pc + 1) L (.int (gc_E σ a i.toNatClampNeg) :: st) σ bc bs) : gc_G θ K M Post pc L (.int i :: va_rf r :: st) σ bc bs := by
  subst e; exact gc_bald h ha hi d kk
theorem gc_zaldE {θ : gc_T} {K : gx_K} {M : gx_M} {Post : Outcome → gc_S → Prop} {pc : Nat} {L : List (Nat × Value)} {st : List Value} {σ : gc_S} {bc bs a : Nat} {r : Option Nat} (h : gc_K θ K M) (e : r = some a) (ha : gc_is σ a 16) {i : Int32} (hi : vp_in i (gc_n σ a)) (d : decode (gx_Mc M) pc = .ok (.baload, 1)) (kk : gc_G θ K M Post (pc + 1) L (.int (gc_E σ a i.toNatClampNeg) :: st) σ bc bs) : gc_G θ K M Post pc L (.int i :: va_rf r :: st) σ bc bs := by
  subst e; exact gc_zald h ha hi d kk
theorem gc_iastE {θ : gc_T} {K : gx_K} {M : gx_M} {Post : Outcome → gc_S → Prop} {pc : Nat} {L : List (Nat × Value)} {st : List Value} {σ : gc_S} {bc bs a : Nat} {r : Option Nat} (h : gc_K θ K M) (e : r = some a) (ha : gc_is σ a 14) {i v : Int32} (hi : vp_in i (gc_n σ a)) (d : decode (gx_Mc M) pc = .ok (.iastore, 1)) (kk : gc_G θ K M Post (pc + 1) L st (gc_sE σ a i.toNatClampNeg v) bc bs) : gc_G θ K M Post pc L (.int v :: .int i :: va_rf r :: st) σ bc bs := by
  subst e; exact gc_iast h ha hi d kk
theorem gc_bastE {θ : gc_T} {K : gx_K} {M : gx_M} {Post : Outcome → gc_S → Prop} {pc : Nat} {L : List (Nat × Value)} {st : List Value} {σ : gc_S} {bc bs a : Nat} {r : Option Nat} (h : gc_K θ K M) (e : r = some a) (ha : gc_is σ a 15) {i v : Int32} (hi : vp_in i (gc_n σ a)) (d : decode (gx_Mc M) pc = .ok (.bastore, 1)) (kk : gc_G θ K M Post (pc + 1) L st (gc_sE σ a i.toNatClampNeg (vp_nar .byte v)) bc bs) : gc_G θ K M Post pc L (.int v :: .int i :: va_rf r :: st) σ bc bs := by
  subst e; exact gc_bast h ha hi d kk
theorem gc_zastE {θ : gc_T} {K : gx_K} {M : gx_M} {Post : Outcome → gc_S → Prop} {pc : Nat} {L : List (Nat × Value)} {st : List Value} {σ : gc_S} {bc bs a : Nat} {r : Option Nat} (h : gc_K θ K M) (e : r = some a) (ha : gc_is σ a 16) {i v : Int32} (hi : vp_in i (gc_n σ a)) (d : decode (gx_Mc M) pc = .ok (.bastore, 1)) (kk : gc_G θ K M Post (pc + 1) L st (gc_sE σ a i.toNatClampNeg (vp_nar .boolean v)) bc bs) : gc_G θ K M Post pc L (.int v :: .int i :: va_rf r :: st) σ bc bs := by
  subst e; exact gc_zast h ha hi d kk
theorem gc_aald17E {θ : gc_T} {K : gx_K} {M : gx_M} {Post : Outcome → gc_S → Prop} {pc : Nat} {L : List (Nat × Value)} {st : List Value} {σ : gc_S} {bc bs a : Nat} {r : Option Nat} (h : gc_K θ K M) (e : r = some a) (ha : gc_is σ a 17) {i : Int32} (hi : vp_in i (gc_n σ a)) (d : decode (gx_Mc M) pc = .ok (.aaload, 1)) (kk : gc_G θ K M Post (pc + 1) L (va_rf (gc_Q σ a i.toNatClampNeg) :: st) σ bc bs) : gc_G θ K M Post pc L (.int i :: va_rf r :: st) σ bc bs := by
  subst e; exact gc_aald17 h ha hi d kk
theorem gc_aald18E {θ : gc_T} {K : gx_K} {M : gx_M} {Post : Outcome → gc_S → Prop} {pc : Nat} {L : List (Nat × Value)} {st : List Value} {σ : gc_S} {bc bs a : Nat} {r : Option Nat} (h : gc_K θ K M) (e : r = some a) (ha : gc_is σ a 18) {i : Int32} (hi : vp_in i (gc_n σ a)) (d : decode (gx_Mc M) pc = .ok (.aaload, 1)) (kk : gc_G θ K M Post (pc + 1) L (va_rf (gc_Q σ a i.toNatClampNeg) :: st) σ bc bs) : gc_G θ K M Post pc L (.int i :: va_rf r :: st) σ bc bs := by
  subst e; exact gc_aald (k := 18) (t := 4) (by decide) rfl h ha hi d kk
theorem gc_aald19E {θ : gc_T} {K : gx_K} {M : gx_M} {Post : Outcome → gc_S → Prop} {pc : Nat} {L : List (Nat × Value)} {st : List Value} {σ : gc_S} {bc bs a : Nat} {r : Option Nat} (h : gc_K θ K M) (e : r = some a) (ha : gc_is σ a 19) {i : Int32} (hi : vp_in i (gc_n σ a)) (d : decode (gx_Mc M) pc = .ok (.aaload, 1)) (kk : gc_G θ K M Post (pc + 1) L (va_rf (gc_Q σ a i.toNatClampNeg) :: st) σ bc bs) : gc_G θ K M Post pc L (.int i :: va_rf r :: st) σ bc bs := by
  subst e; exact gc_aald (k := 19) (t := 5) (by decide) rfl h ha hi d kk
theorem gc_aald20E {θ : gc_T} {K : gx_K} {M : gx_M} {Post : Outcome → gc_S → Prop} {pc : Nat} {L : List (Nat × Value)} {st : List Value} {σ : gc_S} {bc bs a : Nat} {r : Option Nat} (h : gc_K θ K M) (e : r = some a) (ha : gc_is σ a 20) {i : Int32} (hi : vp_in i (gc_n σ a)) (d : decode (gx_Mc M) pc = .ok (.aaload, 1)) (kk : gc_G θ K M Post (pc + 1) L (va_rf (gc_Q σ a i.toNatClampNeg) :: st) σ bc bs) : gc_G θ K M Post pc L (.int i :: va_rf r :: st) σ bc bs := by
  subst e; exact gc_aald (k := 20) (t := 6) (by decide) rfl h ha hi d kk
theorem gc_aast18E {θ : gc_T} {K : gx_K} {M : gx_M} {Post : Outcome → gc_S → Prop} {pc : Nat} {L : List (Nat × Value)} {st : List Value} {σ : gc_S} {bc bs a : Nat} {r : Option Nat} {w : Option Nat} (h : gc_K θ K M) (e : r = some a) (ha : gc_is σ a 18) {i : Int32} (hi : vp_in i (gc_n σ a)) (hv : ∀ v, w = some v → gc_isN σ v) (d : decode (gx_Mc M) pc = .ok (.aastore, 1)) (kk : gc_G θ K M Post (pc + 1) L st (gc_sQ σ a i.toNatClampNeg w) bc bs) : gc_G θ K M Post pc L (va_rf w :: .int i :: va_rf r :: st) σ bc bs := by
  subst e; exact gc_aast18 h ha hi hv d kk
theorem gc_aast19E {θ : gc_T} {K : gx_K} {M : gx_M} {Post : Outcome → gc_S → Prop} {pc : Nat} {L : List (Nat × Value)} {st : List Value} {σ : gc_S} {bc bs a : Nat} {r : Option Nat} {w : Option Nat} (h : gc_K θ K M) (e : r = some a) (ha : gc_is σ a 19) {i : Int32} (hi : vp_in i (gc_n σ a)) (hv : ∀ v, w = some v → gc_is σ v 7) (d : decode (gx_Mc M) pc = .ok (.aastore, 1)) (kk : gc_G θ K M Post (pc + 1) L st (gc_sQ σ a i.toNatClampNeg w) bc bs) : gc_G θ K M Post pc L (va_rf w :: .int i :: va_rf r :: st) σ bc bs := by
  subst e; exact gc_aast19 h ha hi hv d kk
theorem gc_aast20E {θ : gc_T} {K : gx_K} {M : gx_M} {Post : Outcome → gc_S → Prop} {pc : Nat} {L : List (Nat × Value)} {st : List Value} {σ : gc_S} {bc bs a : Nat} {r : Option Nat} {w : Option Nat} (h : gc_K θ K M) (e : r = some a) (ha : gc_is σ a 20) {i : Int32} (hi : vp_in i (gc_n σ a)) (hv : ∀ v, w = some v → gc_isV θ σ v) (d : decode (gx_Mc M) pc = .ok (.aastore, 1)) (kk : gc_G θ K M Post (pc + 1) L st (gc_sQ σ a i.toNatClampNeg w) bc bs) : gc_G θ K M Post pc L (va_rf w :: .int i :: va_rf r :: st) σ bc bs := by
  subst e; exact gc_aast20 h ha hi hv d kk
theorem gc_aast17E {θ : gc_T} {K : gx_K} {M : gx_M} {Post : Outcome → gc_S → Prop} {pc : Nat} {L : List (Nat × Value)} {st : List Value} {σ : gc_S} {bc bs a : Nat} {r : Option Nat} {w : Option Nat} {v : Nat} (h : gc_K θ K M) (e : r = some a) (ev : w = some v) (q : Cond.arrayOver (.array .int) ∈ lw_tbl) (ha : gc_is σ a 17) (hv : gc_is σ v 14) {i : Int32} (hi : vp_in i (gc_n σ a)) (d : decode (gx_Mc M) pc = .ok (.aastore, 1)) (kk : gc_G θ K M Post (pc + 1) L st (gc_sQ σ a i.toNatClampNeg (some v)) bc bs) : gc_G θ K M Post pc L (va_rf w :: .int i :: va_rf r :: st) σ bc bs := by
  subst e; subst ev; exact gc_aast17 h q ha hv hi d kk
theorem gc_alen14E {θ : gc_T} {K : gx_K} {M : gx_M} {Post : Outcome → gc_S → Prop} {pc : Nat} {L : List (Nat × Value)} {st : List Value} {σ : gc_S} {bc bs a : Nat} {r : Option Nat} (h : gc_K θ K M) (e : r = some a) (ha : gc_is σ a 14) (d : decode (gx_Mc M) pc = .ok (.arraylength, 1)) (kk : gc_G θ K M Post (pc + 1) L (.int (Int32.ofNat (gc_n σ a)) :: st) σ bc bs) : gc_G θ K M Post pc L (va_rf r :: st) σ bc bs := by
  subst e; exact gc_alen (k := 14) (t := 0) (by decide) rfl h ha d kk
theorem gc_alen16E {θ : gc_T} {K : gx_K} {M : gx_M} {Post : Outcome → gc_S → Prop} {pc : Nat} {L : List (Nat × Value)} {st : List Value} {σ : gc_S} {bc bs a : Nat} {r : Option Nat} (h : gc_K θ K M) (e : r = some a) (ha : gc_is σ a 16) (d : decode (gx_Mc M) pc = .ok (.arraylength, 1)) (kk : gc_G θ K M Post (pc + 1) L (.int (Int32.ofNat (gc_n σ a)) :: st) σ bc bs) : gc_G θ K M Post pc L (va_rf r :: st) σ bc bs := by
  subst e; exact gc_alen (k := 16) (t := 2) (by decide) rfl h ha d kk
theorem gc_alen17E {θ : gc_T} {K : gx_K} {M : gx_M} {Post : Outcome → gc_S → Prop} {pc : Nat} {L : List (Nat × Value)} {st : List Value} {σ : gc_S} {bc bs a : Nat} {r : Option Nat} (h : gc_K θ K M) (e : r = some a) (ha : gc_is σ a 17) (d : decode (gx_Mc M) pc = .ok (.arraylength, 1)) (kk : gc_G θ K M Post (pc + 1) L (.int (Int32.ofNat (gc_n σ a)) :: st) σ bc bs) : gc_G θ K M Post pc L (va_rf r :: st) σ bc bs := by
  subst e; exact gc_alen (k := 17) (t := 3) (by decide) rfl h ha d kk
theorem gc_alen18E {θ : gc_T} {K : gx_K} {M : gx_M} {Post : Outcome → gc_S → Prop} {pc : Nat} {L : List (Nat × Value)} {st : List Value} {σ : gc_S} {bc bs a : Nat} {r : Option Nat} (h : gc_K θ K M) (e : r = some a) (ha : gc_is σ a 18) (d : decode (gx_Mc M) pc = .ok (.arraylength, 1)) (kk : gc_G θ K M Post (pc + 1) L (.int (Int32.ofNat (gc_n σ a)) :: st) σ bc bs) : gc_G θ K M Post pc L (va_rf r :: st) σ bc bs := by
  subst e; exact gc_alen (k := 18) (t := 4) (by decide) rfl h ha d kk
theorem gc_alen19E {θ : gc_T} {K : gx_K} {M : gx_M} {Post : Outcome → gc_S → Prop} {pc : Nat} {L : List (Nat × Value)} {st : List Value} {σ : gc_S} {bc bs a : Nat} {r : Option Nat} (h : gc_K θ K M) (e : r = some a) (ha : gc_is σ a 19) (d : decode (gx_Mc M) pc = .ok (.arraylength, 1)) (kk : gc_G θ K M Post (pc + 1) L (.int (Int32.ofNat (gc_n σ a)) :: st) σ bc bs) : gc_G θ K M Post pc L (va_rf r :: st) σ bc bs := by
  subst e; exact gc_alen (k := 19) (t := 5) (by decide) rfl h ha d kk
theorem gc_alen15E {θ : gc_T} {K : gx_K} {M : gx_M} {Post : Outcome → gc_S → Prop} {pc : Nat} {L : List (Nat × Value)} {st : List Value} {σ : gc_S} {bc bs a : Nat} {r : Option Nat} (h : gc_K θ K M) (e : r = some a) (ha : gc_isB θ σ a) (d : decode (gx_Mc M) pc = .ok (.arraylength, 1)) (kk : gc_G θ K M Post (pc + 1) L (.int (Int32.ofNat (gc_n σ a)) :: st) σ bc bs) : gc_G θ K M Post pc L (va_rf r :: st) σ bc bs := by
  subst e; exact gc_alenB h ha d kk
theorem gc_alen20E {θ : gc_T} {K : gx_K} {M : gx_M} {Post : Outcome → gc_S → Prop} {pc : Nat} {L : List (Nat × Value)} {st : List Value} {σ : gc_S} {bc bs a : Nat} {r : Option Nat} (h : gc_K θ K M) (e : r = some a) (ha : gc_isO θ σ a) (d : decode (gx_Mc M) pc = .ok (.arraylength, 1)) (kk : gc_G θ K M Post (pc + 1) L (.int (Int32.ofNat (gc_n σ a)) :: st) σ bc bs) : gc_G θ K M Post pc L (va_rf r :: st) σ bc bs := by
  subst e; exact gc_alenO h ha d kk
theorem nd_X0 : ∀ j, j < 21 → defaultValue (tyX0 j) = if gc_rf (gc_b 0 + j) = true then Value.null else .int 0 := by
  intro j hj
  rcases (show j = 0 ∨ j = 1 ∨ j = 2 ∨ j = 3 ∨ j = 4 ∨ j = 5 ∨ j = 6 ∨ j = 7 ∨ j = 8 ∨ j = 9 ∨ j = 10 ∨ j = 11 ∨ j = 12 ∨ j = 13 ∨ j = 14 ∨ j = 15 ∨ j = 16 ∨ j = 17 ∨ j = 18 ∨ j = 19 ∨ j = 20 by omega) with rfl | rfl | rfl | rfl | rfl | rfl | rfl | rfl | rfl | rfl | rfl | rfl | rfl | rfl | rfl | rfl | rfl | rfl | rfl | rfl | rfl <;> rfl
theorem nd_X1 : ∀ j, j < 7 → defaultValue (tyX1 j) = if gc_rf (gc_b 1 + j) = true then Value.null else .int 0 := by
  intro j hj
  rcases (show j = 0 ∨ j = 1 ∨ j = 2 ∨ j = 3 ∨ j = 4 ∨ j = 5 ∨ j = 6 by omega) with rfl | rfl | rfl | rfl | rfl | rfl | rfl <;> rfl
theorem nd_X2 : ∀ j, j < 5 → defaultValue (tyX2 j) = if gc_rf (gc_b 2 + j) = true then Value.null else .int 0 := by
  intro j hj
  rcases (show j = 0 ∨ j = 1 ∨ j = 2 ∨ j = 3 ∨ j = 4 by omega) with rfl | rfl | rfl | rfl | rfl <;> rfl
theorem nd_X3 : ∀ j, j < 2 → defaultValue (tyX3 j) = if gc_rf (gc_b 3 + j) = true then Value.null else .int 0 := by
  intro j hj
  rcases (show j = 0 ∨ j = 1 by omega) with rfl | rfl <;> rfl
theorem nd_X4 : ∀ j, j < 7 → defaultValue (tyX4 j) = if gc_rf (gc_b 4 + j) = true then Value.null else .int 0 := by
  intro j hj
  rcases (show j = 0 ∨ j = 1 ∨ j = 2 ∨ j = 3 ∨ j = 4 ∨ j = 5 ∨ j = 6 by omega) with rfl | rfl | rfl | rfl | rfl | rfl | rfl <;> rfl
theorem nd_X5 : ∀ j, j < 2 → defaultValue (tyX5 j) = if gc_rf (gc_b 5 + j) = true then Value.null else .int 0 := by
  intro j hj
  rcases (show j = 0 ∨ j = 1 by omega) with rfl | rfl <;> rfl
theorem nd_X6 : ∀ j, j < 9 → defaultValue (tyX6 j) = if gc_rf (gc_b 6 + j) = true then Value.null else .int 0 := by
  intro j hj
  rcases (show j = 0 ∨ j = 1 ∨ j = 2 ∨ j = 3 ∨ j = 4 ∨ j = 5 ∨ j = 6 ∨ j = 7 ∨ j = 8 by omega) with rfl | rfl | rfl | rfl | rfl | rfl | rfl | rfl | rfl <;> rfl
theorem nd_X8 : ∀ j, j < 5 → defaultValue (tyX8 j) = if gc_rf (gc_b 7 + j) = true then Value.null else .int 0 := by
  intro j hj
  rcases (show j = 0 ∨ j = 1 ∨ j = 2 ∨ j = 3 ∨ j = 4 by omega) with rfl | rfl | rfl | rfl | rfl <;> rfl
theorem nd_X10 : ∀ j, j < 10 → defaultValue (tyX10 j) = if gc_rf (gc_b 8 + j) = true then Value.null else .int 0 := by
  intro j hj
  rcases (show j = 0 ∨ j = 1 ∨ j = 2 ∨ j = 3 ∨ j = 4 ∨ j = 5 ∨ j = 6 ∨ j = 7 ∨ j = 8 ∨ j = 9 by omega) with rfl | rfl | rfl | rfl | rfl | rfl | rfl | rfl | rfl | rfl <;> rfl
theorem nd_X11 : ∀ j, j < 10 → defaultValue (tyX11 j) = if gc_rf (gc_b 9 + j) = true then Value.null else .int 0 := by
  intro j hj
  rcases (show j = 0 ∨ j = 1 ∨ j = 2 ∨ j = 3 ∨ j = 4 ∨ j = 5 ∨ j = 6 ∨ j = 7 ∨ j = 8 ∨ j = 9 by omega) with rfl | rfl | rfl | rfl | rfl | rfl | rfl | rfl | rfl | rfl <;> rfl
theorem nd_X12 : ∀ j, j < 10 → defaultValue (tyX12 j) = if gc_rf (gc_b 10 + j) = true then Value.null else .int 0 := by
  intro j hj
  rcases (show j = 0 ∨ j = 1 ∨ j = 2 ∨ j = 3 ∨ j = 4 ∨ j = 5 ∨ j = 6 ∨ j = 7 ∨ j = 8 ∨ j = 9 by omega) with rfl | rfl | rfl | rfl | rfl | rfl | rfl | rfl | rfl | rfl <;> rfl
theorem nd_X13 : ∀ j, j < 10 → defaultValue (tyX13 j) = if gc_rf (gc_b 11 + j) = true then Value.null else .int 0 := by
  intro j hj
  rcases (show j = 0 ∨ j = 1 ∨ j = 2 ∨ j = 3 ∨ j = 4 ∨ j = 5 ∨ j = 6 ∨ j = 7 ∨ j = 8 ∨ j = 9 by omega) with rfl | rfl | rfl | rfl | rfl | rfl | rfl | rfl | rfl | rfl <;> rfl
theorem nd_J5 : ∀ j, j < 3 → defaultValue (tyJ5 j) = if gc_rf (gc_b 12 + j) = true then Value.null else .int 0 := by
  intro j hj
  rcases (show j = 0 ∨ j = 1 ∨ j = 2 by omega) with rfl | rfl | rfl <;> rfl
theorem nd_J16 : ∀ j, j < 1 → defaultValue (tyJ16 j) = if gc_rf (gc_b 13 + j) = true then Value.null else .int 0 := by
  intro j hj
  rcases (show j = 0 by omega) with rfl <;> rfl
theorem vC_kind_mono {θ : gc_T} {n : Nat} {σ : gc_S} {a : Nat} {args : List Value} {P Q : Outcome → gc_S → Prop} (h : vC_kind θ n σ a args P) (k : ∀ o y, P o y → Q o y) : vC_kind θ n σ a args Q := ⟨fun e => (h.1 e).mono k, fun e => (h.2.1 e).mono k, fun e => (h.2.2.1 e).mono k, fun e => (h.2.2.2 e).mono k⟩
theorem vC_bears_mono {θ : gc_T} {n : Nat} {σ : gc_S} {a : Nat} {args : List Value} {P Q : Outcome → gc_S → Prop} (h : vC_bears θ n σ a args P) (k : ∀ o y, P o y → Q o y) : vC_bears θ n σ a args Q := ⟨fun e => (h.1 e).mono k, fun e => (h.2.1 e).mono k, fun e => (h.2.2.1 e).mono k, fun e => (h.2.2.2 e).mono k⟩
theorem vC_isOrdered_mono {θ : gc_T} {n : Nat} {σ : gc_S} {a : Nat} {args : List Value} {P Q : Outcome → gc_S → Prop} (h : vC_isOrdered θ n σ a args P) (k : ∀ o y, P o y → Q o y) : vC_isOrdered θ n σ a args Q := ⟨fun e => (h.1 e).mono k, fun e => (h.2.1 e).mono k, fun e => (h.2.2.1 e).mono k, fun e => (h.2.2.2 e).mono k⟩
theorem vC_clashes_mono {θ : gc_T} {n : Nat} {σ : gc_S} {a : Nat} {args : List Value} {P Q : Outcome → gc_S → Prop} (h : vC_clashes θ n σ a args P) (k : ∀ o y, P o y → Q o y) : vC_clashes θ n σ a args Q := ⟨fun e => (h.1 e).mono k, fun e => (h.2.1 e).mono k, fun e => (h.2.2.1 e).mono k, fun e => (h.2.2.2 e).mono k⟩
theorem vC_fits_mono {θ : gc_T} {n : Nat} {σ : gc_S} {a : Nat} {args : List Value} {P Q : Outcome → gc_S → Prop} (h : vC_fits θ n σ a args P) (k : ∀ o y, P o y → Q o y) : vC_fits θ n σ a args Q := ⟨fun e => (h.1 e).mono k, fun e => (h.2.1 e).mono k, fun e => (h.2.2.1 e).mono k, fun e => (h.2.2.2 e).mono k⟩
theorem vC_add_mono {θ : gc_T} {n c s : Nat} {σ : gc_S} {a : Nat} {args : List Value} {P Q : Outcome → gc_S → Prop} (h : vC_add θ n c s σ a args P) (k : ∀ o y, P o y → Q o y) : vC_add θ n c s σ a args Q := ⟨fun e => (h.1 e).mono k, fun e => (h.2.1 e).mono k, fun e => (h.2.2.1 e).mono k, fun e => (h.2.2.2 e).mono k⟩
theorem vC_add_2_mono {θ : gc_T} {n c s : Nat} {σ : gc_S} {a : Nat} {args : List Value} {P Q : Outcome → gc_S → Prop} (h : vC_add_2 θ n c s σ a args P) (k : ∀ o y, P o y → Q o y) : vC_add_2 θ n c s σ a args Q := ⟨fun e => (h.1 e).mono k, fun e => (h.2.1 e).mono k, fun e => (h.2.2.1 e).mono k, fun e => (h.2.2.2 e).mono k⟩
theorem vC_open_mono {θ : gc_T} {n : Nat} {σ : gc_S} {a : Nat} {args : List Value} {P Q : Outcome → gc_S → Prop} (h : vC_open θ n σ a args P) (k : ∀ o y, P o y → Q o y) : vC_open θ n σ a args Q := ⟨fun e => (h.1 e).mono k, fun e => (h.2.1 e).mono k, fun e => (h.2.2.1 e).mono k, fun e => (h.2.2.2 e).mono k⟩
theorem vC_close_mono {θ : gc_T} {n : Nat} {σ : gc_S} {a : Nat} {args : List Value} {P Q : Outcome → gc_S → Prop} (h : vC_close θ n σ a args P) (k : ∀ o y, P o y → Q o y) : vC_close θ n σ a args Q := ⟨fun e => (h.1 e).mono k, fun e => (h.2.1 e).mono k, fun e => (h.2.2.1 e).mono k, fun e => (h.2.2.2 e).mono k⟩
