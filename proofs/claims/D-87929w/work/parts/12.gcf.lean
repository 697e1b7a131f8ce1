set_option maxRecDepth 100000
section GCF
variable {θ : gc_T} {K : gx_K} {M : gx_M} {Post : Outcome → gc_S → Prop} {pc : Nat} {L : List (Nat × Value)} {st : List Value} {σ : gc_S} {bc bs : Nat}
theorem gcp_J0_7 (h : gc_K θ K M) (hc : (gx_My M).cls = "java/lang/Throwable") {r : Option Nat} {a : Nat} {v : Option Nat} (e : r = some a) (ha : gc_is σ a 1) (d : decode (gx_Mc M) pc = .ok (.putfield 7, 3)) (kk : gc_G θ K M Post (pc + 3) L st (gc_sR σ 100 a v) bc bs) : gc_G θ K M Post pc L (va_rf v :: va_rf r :: st) σ bc bs := by
  subst e
  exact gc_put (k := 1) (j := 0) (C := RX1) (T := TX1) (N := 7) (ty := (.object "java/lang/Throwable")) (σ' := gc_sR σ 100 a v) rfl (by decide) rfl in_X1 tyX1_ok nmX1 (by decide) h hc q175 (fun _ h9 => h9) rfl (by decide +kernel) (gc_nar_o _ v).1 (gc_nar_o _ v).2 ha rfl rfl rfl rfl rfl (gc_sR_v (by decide)).1 (gc_sR_v (by decide)).2 d kk
theorem gcp_J0_17 (h : gc_K θ K M) (hc : (gx_My M).cls = "java/lang/Throwable") {r : Option Nat} {a : Nat} {v : Option Nat} (e : r = some a) (ha : gc_is σ a 1) (d : decode (gx_Mc M) pc = .ok (.putfield 17, 3)) (kk : gc_G θ K M Post (pc + 3) L st (gc_sR σ 101 a v) bc bs) : gc_G θ K M Post pc L (va_rf v :: va_rf r :: st) σ bc bs := by
  subst e
  exact gc_put (k := 1) (j := 1) (C := RX1) (T := TX1) (N := 7) (ty := (.array (.object "java/lang/StackTraceElement"))) (σ' := gc_sR σ 101 a v) rfl (by decide) rfl in_X1 tyX1_ok nmX1 (by decide) h hc q176 (fun _ h9 => h9) rfl (by decide +kernel) (gc_nar_a _ v).1 (gc_nar_a _ v).2 ha rfl rfl rfl rfl rfl (gc_sR_v (by decide)).1 (gc_sR_v (by decide)).2 d kk
theorem gcp_J0_24 (h : gc_K θ K M) (hc : (gx_My M).cls = "java/lang/Throwable") {r : Option Nat} {a : Nat} {v : Option Nat} (e : r = some a) (ha : gc_is σ a 1) (d : decode (gx_Mc M) pc = .ok (.putfield 24, 3)) (kk : gc_G θ K M Post (pc + 3) L st (gc_sR σ 102 a v) bc bs) : gc_G θ K M Post pc L (va_rf v :: va_rf r :: st) σ bc bs := by
  subst e
  exact gc_put (k := 1) (j := 2) (C := RX1) (T := TX1) (N := 7) (ty := (.object "java/util/List")) (σ' := gc_sR σ 102 a v) rfl (by decide) rfl in_X1 tyX1_ok nmX1 (by decide) h hc q177 (fun _ h9 => h9) rfl (by decide +kernel) (gc_nar_o _ v).1 (gc_nar_o _ v).2 ha rfl rfl rfl rfl rfl (gc_sR_v (by decide)).1 (gc_sR_v (by decide)).2 d kk
theorem gcp_J0_31 (h : gc_K θ K M) (hc : (gx_My M).cls = "java/lang/Throwable") {r : Option Nat} {a : Nat} {v : Option Nat} (e : r = some a) (ha : gc_is σ a 1) (d : decode (gx_Mc M) pc = .ok (.putfield 31, 3)) (kk : gc_G θ K M Post (pc + 3) L st (gc_sR σ 103 a v) bc bs) : gc_G θ K M Post pc L (va_rf v :: va_rf r :: st) σ bc bs := by
  subst e
  exact gc_put (k := 1) (j := 3) (C := RX1) (T := TX1) (N := 7) (ty := (.object "java/lang/String")) (σ' := gc_sR σ 103 a v) rfl (by decide) rfl in_X1 tyX1_ok nmX1 (by decide) h hc q174 (fun _ h9 => h9) rfl (by decide +kernel) (gc_nar_o _ v).1 (gc_nar_o _ v).2 ha rfl rfl rfl rfl rfl (gc_sR_v (by decide)).1 (gc_sR_v (by decide)).2 d kk
theorem gcg_J16_205 (h : gc_K θ K M) (hc : (gx_My M).cls = "java/lang/Integer") {r : Option Nat} {a : Nat} (e : r = some a) (ha : gc_is σ a 13) (d : decode (gx_Mc M) pc = .ok (.getfield 205, 3)) (kk : gc_G θ K M Post (pc + 3) L (.int (gc_I σ 1300 a) :: st) σ bc bs) : gc_G θ K M Post pc L (va_rf r :: st) σ bc bs := by
  subst e
  exact gc_get (k := 13) (j := 0) (C := RJ16) (T := TJ16) (N := 1) rfl (by decide) rfl in_J16 (by decide) h hc q1231 (fun _ h9 => h9) ha d kk
theorem gcp_J16_205 (h : gc_K θ K M) (hc : (gx_My M).cls = "java/lang/Integer") (hi2 : (gx_My M).name = "<init>") {r : Option Nat} {a : Nat} {v : Int32} (e : r = some a) (ha : gc_is σ a 13) (d : decode (gx_Mc M) pc = .ok (.putfield 205, 3)) (kk : gc_G θ K M Post (pc + 3) L st (gc_sI σ 1300 a v) bc bs) : gc_G θ K M Post pc L (.int v :: va_rf r :: st) σ bc bs := by
  subst e
  exact gc_putF (k := 13) (j := 0) (C := RJ16) (T := TJ16) (N := 1) (ty := .int) (σ' := gc_sI σ 1300 a v) rfl (by decide) rfl in_J16 tyJ16_ok nmJ16 (by decide) h hc hi2 q1231 (fun _ h9 => h9) rfl rfl (by decide +kernel) rfl rfl ha rfl rfl rfl rfl rfl (gc_sI_v (by decide)).1 (gc_sI_v (by decide)).2 d kk
theorem gcp_J4_7 (h : gc_K θ K M) (hc : (gx_My M).cls = "java/util/AbstractList") {r : Option Nat} {a : Nat} {v : Int32} (e : r = some a) (ha : gc_is σ a 12) (d : decode (gx_Mc M) pc = .ok (.putfield 7, 3)) (kk : gc_G θ K M Post (pc + 3) L st (gc_sI σ 1200 a v) bc bs) : gc_G θ K M Post pc L (.int v :: va_rf r :: st) σ bc bs := by
  subst e
  exact gc_put (k := 12) (j := 0) (C := RJ5) (T := TJ5) (N := 3) (ty := .int) (σ' := gc_sI σ 1200 a v) rfl (by decide) rfl in_J5 tyJ5_ok nmJ5 (by decide) h hc q302 (fun _ h9 => h9) rfl (by decide +kernel) rfl rfl ha rfl rfl rfl rfl rfl (gc_sI_v (by decide)).1 (gc_sI_v (by decide)).2 d kk
theorem gcg_J5_9 (h : gc_K θ K M) (hc : (gx_My M).cls = "java/util/ArrayList") {r : Option Nat} {a : Nat} (e : r = some a) (ha : gc_is σ a 12) (d : decode (gx_Mc M) pc = .ok (.getfield 9, 3)) (kk : gc_G θ K M Post (pc + 3) L (va_rf (gc_R σ 1201 a) :: st) σ bc bs) : gc_G θ K M Post pc L (va_rf r :: st) σ bc bs := by
  subst e
  exact gc_get (k := 12) (j := 1) (C := RJ5) (T := TJ5) (N := 3) rfl (by decide) rfl in_J5 (by decide) h hc q300 (fun _ h9 => h9) ha d kk
theorem gcg_J5_48 (h : gc_K θ K M) (hc : (gx_My M).cls = "java/util/ArrayList") {r : Option Nat} {a : Nat} (e : r = some a) (ha : gc_is σ a 12) (d : decode (gx_Mc M) pc = .ok (.getfield 48, 3)) (kk : gc_G θ K M Post (pc + 3) L (.int (gc_I σ 1202 a) :: st) σ bc bs) : gc_G θ K M Post pc L (va_rf r :: st) σ bc bs := by
  subst e
  exact gc_get (k := 12) (j := 2) (C := RJ5) (T := TJ5) (N := 3) rfl (by decide) rfl in_J5 (by decide) h hc q301 (fun _ h9 => h9) ha d kk
theorem gcg_J5_63 (h : gc_K θ K M) (hc : (gx_My M).cls = "java/util/ArrayList") {r : Option Nat} {a : Nat} (e : r = some a) (ha : gc_is σ a 12) (d : decode (gx_Mc M) pc = .ok (.getfield 63, 3)) (kk : gc_G θ K M Post (pc + 3) L (.int (gc_I σ 1200 a) :: st) σ bc bs) : gc_G θ K M Post pc L (va_rf r :: st) σ bc bs := by
  subst e
  exact gc_get (k := 12) (j := 0) (C := RJ5) (T := TJ5) (N := 3) rfl (by decide) rfl in_J5 (by decide) h hc q303 (fun x9 h9 => u_same (h.2.2.2.2.1 _ q304) x9 h9) ha d kk
theorem gcp_J5_9 (h : gc_K θ K M) (hc : (gx_My M).cls = "java/util/ArrayList") {r : Option Nat} {a : Nat} {v : Option Nat} (e : r = some a) (ha : gc_is σ a 12) (d : decode (gx_Mc M) pc = .ok (.putfield 9, 3)) (kk : gc_G θ K M Post (pc + 3) L st (gc_sR σ 1201 a v) bc bs) : gc_G θ K M Post pc L (va_rf v :: va_rf r :: st) σ bc bs := by
  subst e
  exact gc_put (k := 12) (j := 1) (C := RJ5) (T := TJ5) (N := 3) (ty := (.array (.object "java/lang/Object"))) (σ' := gc_sR σ 1201 a v) rfl (by decide) rfl in_J5 tyJ5_ok nmJ5 (by decide) h hc q300 (fun _ h9 => h9) rfl (by decide +kernel) (gc_nar_a _ v).1 (gc_nar_a _ v).2 ha rfl rfl rfl rfl rfl (gc_sR_v (by decide)).1 (gc_sR_v (by decide)).2 d kk
theorem gcp_J5_48 (h : gc_K θ K M) (hc : (gx_My M).cls = "java/util/ArrayList") {r : Option Nat} {a : Nat} {v : Int32} (e : r = some a) (ha : gc_is σ a 12) (d : decode (gx_Mc M) pc = .ok (.putfield 48, 3)) (kk : gc_G θ K M Post (pc + 3) L st (gc_sI σ 1202 a v) bc bs) : gc_G θ K M Post pc L (.int v :: va_rf r :: st) σ bc bs := by
  subst e
  exact gc_put (k := 12) (j := 2) (C := RJ5) (T := TJ5) (N := 3) (ty := .int) (σ' := gc_sI σ 1202 a v) rfl (by decide) rfl in_J5 tyJ5_ok nmJ5 (by decide) h hc q301 (fun _ h9 => h9) rfl (by decide +kernel) rfl rfl ha rfl rfl rfl rfl rfl (gc_sI_v (by decide)).1 (gc_sI_v (by decide)).2 d kk
theorem gcp_J5_63 (h : gc_K θ K M) (hc : (gx_My M).cls = "java/util/ArrayList") {r : Option Nat} {a : Nat} {v : Int32} (e : r = some a) (ha : gc_is σ a 12) (d : decode (gx_Mc M) pc = .ok (.putfield 63, 3)) (kk : gc_G θ K M Post (pc + 3) L st (gc_sI σ 1200 a v) bc bs) : gc_G θ K M Post pc L (.int v :: va_rf r :: st) σ bc bs := by
  subst e
  exact gc_put (k := 12) (j := 0) (C := RJ5) (T := TJ5) (N := 3) (ty := .int) (σ' := gc_sI σ 1200 a v) rfl (by decide) rfl in_J5 tyJ5_ok nmJ5 (by decide) h hc q303 (fun x9 h9 => u_same (h.2.2.2.2.1 _ q304) x9 h9) rfl (by decide +kernel) rfl rfl ha rfl rfl rfl rfl rfl (gc_sI_v (by decide)).1 (gc_sI_v (by decide)).2 d kk
theorem gcg_X0_36 (h : gc_K θ K M) (hc : (gx_My M).cls = "BranchMender") {r : Option Nat} {a : Nat} (e : r = some a) (ha : gc_is σ a 0) (d : decode (gx_Mc M) pc = .ok (.getfield 36, 3)) (kk : gc_G θ K M Post (pc + 3) L (va_rf (gc_R σ 0 a) :: st) σ bc bs) : gc_G θ K M Post pc L (va_rf r :: st) σ bc bs := by
  subst e
  exact gc_get (k := 0) (j := 0) (C := RX0) (T := TX0) (N := 21) rfl (by decide) rfl in_X0 (by decide) h hc q343 (fun _ h9 => h9) ha d kk
theorem gcg_X0_40 (h : gc_K θ K M) (hc : (gx_My M).cls = "BranchMender") {r : Option Nat} {a : Nat} (e : r = some a) (ha : gc_is σ a 0) (d : decode (gx_Mc M) pc = .ok (.getfield 40, 3)) (kk : gc_G θ K M Post (pc + 3) L (va_rf (gc_R σ 1 a) :: st) σ bc bs) : gc_G θ K M Post pc L (va_rf r :: st) σ bc bs := by
  subst e
  exact gc_get (k := 0) (j := 1) (C := RX0) (T := TX0) (N := 21) rfl (by decide) rfl in_X0 (by decide) h hc q344 (fun _ h9 => h9) ha d kk
theorem gcg_X0_46 (h : gc_K θ K M) (hc : (gx_My M).cls = "BranchMender") {r : Option Nat} {a : Nat} (e : r = some a) (ha : gc_is σ a 0) (d : decode (gx_Mc M) pc = .ok (.getfield 46, 3)) (kk : gc_G θ K M Post (pc + 3) L (va_rf (gc_R σ 2 a) :: st) σ bc bs) : gc_G θ K M Post pc L (va_rf r :: st) σ bc bs := by
  subst e
  exact gc_get (k := 0) (j := 2) (C := RX0) (T := TX0) (N := 21) rfl (by decide) rfl in_X0 (by decide) h hc q345 (fun _ h9 => h9) ha d kk
theorem gcg_X0_50 (h : gc_K θ K M) (hc : (gx_My M).cls = "BranchMender") {r : Option Nat} {a : Nat} (e : r = some a) (ha : gc_is σ a 0) (d : decode (gx_Mc M) pc = .ok (.getfield 50, 3)) (kk : gc_G θ K M Post (pc + 3) L (va_rf (gc_R σ 4 a) :: st) σ bc bs) : gc_G θ K M Post pc L (va_rf r :: st) σ bc bs := by
  subst e
  exact gc_get (k := 0) (j := 4) (C := RX0) (T := TX0) (N := 21) rfl (by decide) rfl in_X0 (by decide) h hc q347 (fun _ h9 => h9) ha d kk
theorem gcg_X0_59 (h : gc_K θ K M) (hc : (gx_My M).cls = "BranchMender") {r : Option Nat} {a : Nat} (e : r = some a) (ha : gc_is σ a 0) (d : decode (gx_Mc M) pc = .ok (.getfield 59, 3)) (kk : gc_G θ K M Post (pc + 3) L (va_rf (gc_R σ 6 a) :: st) σ bc bs) : gc_G θ K M Post pc L (va_rf r :: st) σ bc bs := by
  subst e
  exact gc_get (k := 0) (j := 6) (C := RX0) (T := TX0) (N := 21) rfl (by decide) rfl in_X0 (by decide) h hc q349 (fun _ h9 => h9) ha d kk
theorem gcg_X0_66 (h : gc_K θ K M) (hc : (gx_My M).cls = "BranchMender") {r : Option Nat} {a : Nat} (e : r = some a) (ha : gc_is σ a 0) (d : decode (gx_Mc M) pc = .ok (.getfield 66, 3)) (kk : gc_G θ K M Post (pc + 3) L (va_rf (gc_R σ 7 a) :: st) σ bc bs) : gc_G θ K M Post pc L (va_rf r :: st) σ bc bs := by
  subst e
  exact gc_get (k := 0) (j := 7) (C := RX0) (T := TX0) (N := 21) rfl (by decide) rfl in_X0 (by decide) h hc q350 (fun _ h9 => h9) ha d kk
theorem gcg_X0_73 (h : gc_K θ K M) (hc : (gx_My M).cls = "BranchMender") {r : Option Nat} {a : Nat} (e : r = some a) (ha : gc_is σ a 0) (d : decode (gx_Mc M) pc = .ok (.getfield 73, 3)) (kk : gc_G θ K M Post (pc + 3) L (va_rf (gc_R σ 8 a) :: st) σ bc bs) : gc_G θ K M Post pc L (va_rf r :: st) σ bc bs := by
  subst e
  exact gc_get (k := 0) (j := 8) (C := RX0) (T := TX0) (N := 21) rfl (by decide) rfl in_X0 (by decide) h hc q351 (fun _ h9 => h9) ha d kk
theorem gcg_X0_80 (h : gc_K θ K M) (hc : (gx_My M).cls = "BranchMender") {r : Option Nat} {a : Nat} (e : r = some a) (ha : gc_is σ a 0) (d : decode (gx_Mc M) pc = .ok (.getfield 80, 3)) (kk : gc_G θ K M Post (pc + 3) L (va_rf (gc_R σ 9 a) :: st) σ bc bs) : gc_G θ K M Post pc L (va_rf r :: st) σ bc bs := by
  subst e
  exact gc_get (k := 0) (j := 9) (C := RX0) (T := TX0) (N := 21) rfl (by decide) rfl in_X0 (by decide) h hc q352 (fun _ h9 => h9) ha d kk
theorem gcg_X0_87 (h : gc_K θ K M) (hc : (gx_My M).cls = "BranchMender") {r : Option Nat} {a : Nat} (e : r = some a) (ha : gc_is σ a 0) (d : decode (gx_Mc M) pc = .ok (.getfield 87, 3)) (kk : gc_G θ K M Post (pc + 3) L (va_rf (gc_R σ 10 a) :: st) σ bc bs) : gc_G θ K M Post pc L (va_rf r :: st) σ bc bs := by
  subst e
  exact gc_get (k := 0) (j := 10) (C := RX0) (T := TX0) (N := 21) rfl (by decide) rfl in_X0 (by decide) h hc q353 (fun _ h9 => h9) ha d kk
theorem gcg_X0_91 (h : gc_K θ K M) (hc : (gx_My M).cls = "BranchMender") {r : Option Nat} {a : Nat} (e : r = some a) (ha : gc_is σ a 0) (d : decode (gx_Mc M) pc = .ok (.getfield 91, 3)) (kk : gc_G θ K M Post (pc + 3) L (va_rf (gc_R σ 15 a) :: st) σ bc bs) : gc_G θ K M Post pc L (va_rf r :: st) σ bc bs := by
  subst e
  exact gc_get (k := 0) (j := 15) (C := RX0) (T := TX0) (N := 21) rfl (by decide) rfl in_X0 (by decide) h hc q358 (fun _ h9 => h9) ha d kk
theorem gcg_X0_94 (h : gc_K θ K M) (hc : (gx_My M).cls = "BranchMender") {r : Option Nat} {a : Nat} (e : r = some a) (ha : gc_is σ a 0) (d : decode (gx_Mc M) pc = .ok (.getfield 94, 3)) (kk : gc_G θ K M Post (pc + 3) L (va_rf (gc_R σ 16 a) :: st) σ bc bs) : gc_G θ K M Post pc L (va_rf r :: st) σ bc bs := by
  subst e
  exact gc_get (k := 0) (j := 16) (C := RX0) (T := TX0) (N := 21) rfl (by decide) rfl in_X0 (by decide) h hc q359 (fun _ h9 => h9) ha d kk
theorem gcg_X0_97 (h : gc_K θ K M) (hc : (gx_My M).cls = "BranchMender") {r : Option Nat} {a : Nat} (e : r = some a) (ha : gc_is σ a 0) (d : decode (gx_Mc M) pc = .ok (.getfield 97, 3)) (kk : gc_G θ K M Post (pc + 3) L (va_rf (gc_R σ 18 a) :: st) σ bc bs) : gc_G θ K M Post pc L (va_rf r :: st) σ bc bs := by
  subst e
  exact gc_get (k := 0) (j := 18) (C := RX0) (T := TX0) (N := 21) rfl (by decide) rfl in_X0 (by decide) h hc q361 (fun _ h9 => h9) ha d kk
theorem gcg_X0_100 (h : gc_K θ K M) (hc : (gx_My M).cls = "BranchMender") {r : Option Nat} {a : Nat} (e : r = some a) (ha : gc_is σ a 0) (d : decode (gx_Mc M) pc = .ok (.getfield 100, 3)) (kk : gc_G θ K M Post (pc + 3) L (va_rf (gc_R σ 19 a) :: st) σ bc bs) : gc_G θ K M Post pc L (va_rf r :: st) σ bc bs := by
  subst e
  exact gc_get (k := 0) (j := 19) (C := RX0) (T := TX0) (N := 21) rfl (by decide) rfl in_X0 (by decide) h hc q362 (fun _ h9 => h9) ha d kk
theorem gcg_X0_103 (h : gc_K θ K M) (hc : (gx_My M).cls = "BranchMender") {r : Option Nat} {a : Nat} (e : r = some a) (ha : gc_is σ a 0) (d : decode (gx_Mc M) pc = .ok (.getfield 103, 3)) (kk : gc_G θ K M Post (pc + 3) L (va_rf (gc_R σ 20 a) :: st) σ bc bs) : gc_G θ K M Post pc L (va_rf r :: st) σ bc bs := by
  subst e
  exact gc_get (k := 0) (j := 20) (C := RX0) (T := TX0) (N := 21) rfl (by decide) rfl in_X0 (by decide) h hc q363 (fun _ h9 => h9) ha d kk
theorem gcg_X0_110 (h : gc_K θ K M) (hc : (gx_My M).cls = "BranchMender") {r : Option Nat} {a : Nat} (e : r = some a) (ha : gc_is σ a 1) (d : decode (gx_Mc M) pc = .ok (.getfield 110, 3)) (kk : gc_G θ K M Post (pc + 3) L (.int (gc_I σ 106 a) :: st) σ bc bs) : gc_G θ K M Post pc L (va_rf r :: st) σ bc bs := by
  subst e
  exact gc_getN (k := 1) (j := 6) (C := RX1) (T := TX1) (N := 7) rfl (by decide) rfl in_X1 (by decide) h hc q172 (fun _ h9 => h9) ha d kk
theorem gcg_X0_114 (h : gc_K θ K M) (hc : (gx_My M).cls = "BranchMender") {r : Option Nat} {a : Nat} (e : r = some a) (ha : gc_is σ a 7) (d : decode (gx_Mc M) pc = .ok (.getfield 114, 3)) (kk : gc_G θ K M Post (pc + 3) L (va_rf (gc_R σ 700 a) :: st) σ bc bs) : gc_G θ K M Post pc L (va_rf r :: st) σ bc bs := by
  subst e
  exact gc_getN (k := 7) (j := 0) (C := RX8) (T := TX8) (N := 5) rfl (by decide) rfl in_X8 (by decide) h hc q708 (fun _ h9 => h9) ha d kk
theorem gcg_X0_118 (h : gc_K θ K M) (hc : (gx_My M).cls = "BranchMender") {r : Option Nat} {a : Nat} (e : r = some a) (ha : gc_isN σ a) (d : decode (gx_Mc M) pc = .ok (.getfield 118, 3)) (kk : gc_G θ K M Post (pc + 3) L (.int (gc_I σ 800 a) :: st) σ bc bs) : gc_G θ K M Post pc L (va_rf r :: st) σ bc bs := by
  subst e
  have hk : gc_k σ a = 8 ∨ gc_k σ a = 9 ∨ gc_k σ a = 10 ∨ gc_k σ a = 11 := by have := ha.2; omega
  rcases hk with hk | hk | hk | hk
  · exact gc_get (k := 8) (j := 0) (C := RX10) (T := TX10) (N := 10) rfl (by decide) rfl in_X10 (by decide) h hc q502 (fun _ h9 => h9) ⟨ha.1, hk⟩ d kk
  · exact gc_get (k := 9) (j := 0) (C := RX11) (T := TX11) (N := 10) rfl (by decide) rfl in_X11 (by decide) h hc q502 (fun _ h9 => h9) ⟨ha.1, hk⟩ d kk
  · exact gc_get (k := 10) (j := 0) (C := RX12) (T := TX12) (N := 10) rfl (by decide) rfl in_X12 (by decide) h hc q502 (fun _ h9 => h9) ⟨ha.1, hk⟩ d kk
  · exact gc_get (k := 11) (j := 0) (C := RX13) (T := TX13) (N := 10) rfl (by decide) rfl in_X13 (by decide) h hc q502 (fun _ h9 => h9) ⟨ha.1, hk⟩ d kk
theorem gcg_X0_135 (h : gc_K θ K M) (hc : (gx_My M).cls = "BranchMender") {r : Option Nat} {a : Nat} (e : r = some a) (ha : gc_is σ a 0) (d : decode (gx_Mc M) pc = .ok (.getfield 135, 3)) (kk : gc_G θ K M Post (pc + 3) L (.int (gc_I σ 5 a) :: st) σ bc bs) : gc_G θ K M Post pc L (va_rf r :: st) σ bc bs := by
  subst e
  exact gc_get (k := 0) (j := 5) (C := RX0) (T := TX0) (N := 21) rfl (by decide) rfl in_X0 (by decide) h hc q348 (fun _ h9 => h9) ha d kk
theorem gcg_X0_152 (h : gc_K θ K M) (hc : (gx_My M).cls = "BranchMender") {r : Option Nat} {a : Nat} (e : r = some a) (ha : gc_is σ a 7) (d : decode (gx_Mc M) pc = .ok (.getfield 152, 3)) (kk : gc_G θ K M Post (pc + 3) L (.int (gc_I σ 703 a) :: st) σ bc bs) : gc_G θ K M Post pc L (va_rf r :: st) σ bc bs := by
  subst e
  exact gc_getN (k := 7) (j := 3) (C := RX8) (T := TX8) (N := 5) rfl (by decide) rfl in_X8 (by decide) h hc q720 (fun _ h9 => h9) ha d kk
theorem gcg_X0_155 (h : gc_K θ K M) (hc : (gx_My M).cls = "BranchMender") {r : Option Nat} {a : Nat} (e : r = some a) (ha : gc_is σ a 7) (d : decode (gx_Mc M) pc = .ok (.getfield 155, 3)) (kk : gc_G θ K M Post (pc + 3) L (va_rf (gc_R σ 701 a) :: st) σ bc bs) : gc_G θ K M Post pc L (va_rf r :: st) σ bc bs := by
  subst e
  exact gc_getN (k := 7) (j := 1) (C := RX8) (T := TX8) (N := 5) rfl (by decide) rfl in_X8 (by decide) h hc q711 (fun _ h9 => h9) ha d kk
theorem gcg_X0_159 (h : gc_K θ K M) (hc : (gx_My M).cls = "BranchMender") {r : Option Nat} {a : Nat} (e : r = some a) (ha : gc_is σ a 0) (d : decode (gx_Mc M) pc = .ok (.getfield 159, 3)) (kk : gc_G θ K M Post (pc + 3) L (.int (gc_I σ 3 a) :: st) σ bc bs) : gc_G θ K M Post pc L (va_rf r :: st) σ bc bs := by
  subst e
  exact gc_get (k := 0) (j := 3) (C := RX0) (T := TX0) (N := 21) rfl (by decide) rfl in_X0 (by decide) h hc q346 (fun _ h9 => h9) ha d kk
theorem gcg_X0_166 (h : gc_K θ K M) (hc : (gx_My M).cls = "BranchMender") {r : Option Nat} {a : Nat} (e : r = some a) (ha : gc_is σ a 3) (d : decode (gx_Mc M) pc = .ok (.getfield 166, 3)) (kk : gc_G θ K M Post (pc + 3) L (.int (gc_I σ 301 a) :: st) σ bc bs) : gc_G θ K M Post pc L (va_rf r :: st) σ bc bs := by
  subst e
  exact gc_getN (k := 3) (j := 1) (C := RX3) (T := TX3) (N := 2) rfl (by decide) rfl in_X3 (by decide) h hc q223 (fun _ h9 => h9) ha d kk
theorem gcg_X0_170 (h : gc_K θ K M) (hc : (gx_My M).cls = "BranchMender") {r : Option Nat} {a : Nat} (e : r = some a) (ha : gc_is σ a 3) (d : decode (gx_Mc M) pc = .ok (.getfield 170, 3)) (kk : gc_G θ K M Post (pc + 3) L (va_rf (gc_R σ 300 a) :: st) σ bc bs) : gc_G θ K M Post pc L (va_rf r :: st) σ bc bs := by
  subst e
  exact gc_getN (k := 3) (j := 0) (C := RX3) (T := TX3) (N := 2) rfl (by decide) rfl in_X3 (by decide) h hc q221 (fun _ h9 => h9) ha d kk
theorem gcg_X0_181 (h : gc_K θ K M) (hc : (gx_My M).cls = "BranchMender") {r : Option Nat} {a : Nat} (e : r = some a) (ha : gc_isN σ a) (d : decode (gx_Mc M) pc = .ok (.getfield 181, 3)) (kk : gc_G θ K M Post (pc + 3) L (va_rf (gc_R σ 804 a) :: st) σ bc bs) : gc_G θ K M Post pc L (va_rf r :: st) σ bc bs := by
  subst e
  have hk : gc_k σ a = 8 ∨ gc_k σ a = 9 ∨ gc_k σ a = 10 ∨ gc_k σ a = 11 := by have := ha.2; omega
  rcases hk with hk | hk | hk | hk
  · exact gc_get (k := 8) (j := 4) (C := RX10) (T := TX10) (N := 10) rfl (by decide) rfl in_X10 (by decide) h hc q537 (fun _ h9 => h9) ⟨ha.1, hk⟩ d kk
  · exact gc_get (k := 9) (j := 4) (C := RX11) (T := TX11) (N := 10) rfl (by decide) rfl in_X11 (by decide) h hc q537 (fun _ h9 => h9) ⟨ha.1, hk⟩ d kk
  · exact gc_get (k := 10) (j := 4) (C := RX12) (T := TX12) (N := 10) rfl (by decide) rfl in_X12 (by decide) h hc q537 (fun _ h9 => h9) ⟨ha.1, hk⟩ d kk
  · exact gc_get (k := 11) (j := 4) (C := RX13) (T := TX13) (N := 10) rfl (by decide) rfl in_X13 (by decide) h hc q537 (fun _ h9 => h9) ⟨ha.1, hk⟩ d kk
theorem gcg_X0_189 (h : gc_K θ K M) (hc : (gx_My M).cls = "BranchMender") {r : Option Nat} {a : Nat} (e : r = some a) (ha : gc_isN σ a) (d : decode (gx_Mc M) pc = .ok (.getfield 189, 3)) (kk : gc_G θ K M Post (pc + 3) L (.int (gc_I σ 808 a) :: st) σ bc bs) : gc_G θ K M Post pc L (va_rf r :: st) σ bc bs := by
  subst e
  have hk : gc_k σ a = 8 ∨ gc_k σ a = 9 ∨ gc_k σ a = 10 ∨ gc_k σ a = 11 := by have := ha.2; omega
  rcases hk with hk | hk | hk | hk
  · exact gc_get (k := 8) (j := 8) (C := RX10) (T := TX10) (N := 10) rfl (by decide) rfl in_X10 (by decide) h hc q547 (fun _ h9 => h9) ⟨ha.1, hk⟩ d kk
  · exact gc_get (k := 9) (j := 8) (C := RX11) (T := TX11) (N := 10) rfl (by decide) rfl in_X11 (by decide) h hc q547 (fun _ h9 => h9) ⟨ha.1, hk⟩ d kk
  · exact gc_get (k := 10) (j := 8) (C := RX12) (T := TX12) (N := 10) rfl (by decide) rfl in_X12 (by decide) h hc q547 (fun _ h9 => h9) ⟨ha.1, hk⟩ d kk
  · exact gc_get (k := 11) (j := 8) (C := RX13) (T := TX13) (N := 10) rfl (by decide) rfl in_X13 (by decide) h hc q547 (fun _ h9 => h9) ⟨ha.1, hk⟩ d kk
theorem gcg_X0_192 (h : gc_K θ K M) (hc : (gx_My M).cls = "BranchMender") {r : Option Nat} {a : Nat} (e : r = some a) (ha : gc_isN σ a) (d : decode (gx_Mc M) pc = .ok (.getfield 192, 3)) (kk : gc_G θ K M Post (pc + 3) L (va_rf (gc_R σ 803 a) :: st) σ bc bs) : gc_G θ K M Post pc L (va_rf r :: st) σ bc bs := by
  subst e
  have hk : gc_k σ a = 8 ∨ gc_k σ a = 9 ∨ gc_k σ a = 10 ∨ gc_k σ a = 11 := by have := ha.2; omega
  rcases hk with hk | hk | hk | hk
  · exact gc_get (k := 8) (j := 3) (C := RX10) (T := TX10) (N := 10) rfl (by decide) rfl in_X10 (by decide) h hc q526 (fun _ h9 => h9) ⟨ha.1, hk⟩ d kk
  · exact gc_get (k := 9) (j := 3) (C := RX11) (T := TX11) (N := 10) rfl (by decide) rfl in_X11 (by decide) h hc q526 (fun _ h9 => h9) ⟨ha.1, hk⟩ d kk
  · exact gc_get (k := 10) (j := 3) (C := RX12) (T := TX12) (N := 10) rfl (by decide) rfl in_X12 (by decide) h hc q526 (fun _ h9 => h9) ⟨ha.1, hk⟩ d kk
  · exact gc_get (k := 11) (j := 3) (C := RX13) (T := TX13) (N := 10) rfl (by decide) rfl in_X13 (by decide) h hc q526 (fun _ h9 => h9) ⟨ha.1, hk⟩ d kk
theorem gcg_X0_195 (h : gc_K θ K M) (hc : (gx_My M).cls = "BranchMender") {r : Option Nat} {a : Nat} (e : r = some a) (ha : gc_isN σ a) (d : decode (gx_Mc M) pc = .ok (.getfield 195, 3)) (kk : gc_G θ K M Post (pc + 3) L (.int (gc_I σ 806 a) :: st) σ bc bs) : gc_G θ K M Post pc L (va_rf r :: st) σ bc bs := by
  subst e
  have hk : gc_k σ a = 8 ∨ gc_k σ a = 9 ∨ gc_k σ a = 10 ∨ gc_k σ a = 11 := by have := ha.2; omega
  rcases hk with hk | hk | hk | hk
  · exact gc_get (k := 8) (j := 6) (C := RX10) (T := TX10) (N := 10) rfl (by decide) rfl in_X10 (by decide) h hc q542 (fun _ h9 => h9) ⟨ha.1, hk⟩ d kk
  · exact gc_get (k := 9) (j := 6) (C := RX11) (T := TX11) (N := 10) rfl (by decide) rfl in_X11 (by decide) h hc q542 (fun _ h9 => h9) ⟨ha.1, hk⟩ d kk
  · exact gc_get (k := 10) (j := 6) (C := RX12) (T := TX12) (N := 10) rfl (by decide) rfl in_X12 (by decide) h hc q542 (fun _ h9 => h9) ⟨ha.1, hk⟩ d kk
  · exact gc_get (k := 11) (j := 6) (C := RX13) (T := TX13) (N := 10) rfl (by decide) rfl in_X13 (by decide) h hc q542 (fun _ h9 => h9) ⟨ha.1, hk⟩ d kk
theorem gcg_X0_198 (h : gc_K θ K M) (hc : (gx_My M).cls = "BranchMender") {r : Option Nat} {a : Nat} (e : r = some a) (ha : gc_isN σ a) (d : decode (gx_Mc M) pc = .ok (.getfield 198, 3)) (kk : gc_G θ K M Post (pc + 3) L (.int (gc_I σ 807 a) :: st) σ bc bs) : gc_G θ K M Post pc L (va_rf r :: st) σ bc bs := by
  subst e
  have hk : gc_k σ a = 8 ∨ gc_k σ a = 9 ∨ gc_k σ a = 10 ∨ gc_k σ a = 11 := by have := ha.2; omega
  rcases hk with hk | hk | hk | hk
  · exact gc_get (k := 8) (j := 7) (C := RX10) (T := TX10) (N := 10) rfl (by decide) rfl in_X10 (by decide) h hc q545 (fun _ h9 => h9) ⟨ha.1, hk⟩ d kk
  · exact gc_get (k := 9) (j := 7) (C := RX11) (T := TX11) (N := 10) rfl (by decide) rfl in_X11 (by decide) h hc q545 (fun _ h9 => h9) ⟨ha.1, hk⟩ d kk
  · exact gc_get (k := 10) (j := 7) (C := RX12) (T := TX12) (N := 10) rfl (by decide) rfl in_X12 (by decide) h hc q545 (fun _ h9 => h9) ⟨ha.1, hk⟩ d kk
  · exact gc_get (k := 11) (j := 7) (C := RX13) (T := TX13) (N := 10) rfl (by decide) rfl in_X13 (by decide) h hc q545 (fun _ h9 => h9) ⟨ha.1, hk⟩ d kk
theorem gcg_X0_201 (h : gc_K θ K M) (hc : (gx_My M).cls = "BranchMender") {r : Option Nat} {a : Nat} (e : r = some a) (ha : gc_isN σ a) (d : decode (gx_Mc M) pc = .ok (.getfield 201, 3)) (kk : gc_G θ K M Post (pc + 3) L (va_rf (gc_R σ 801 a) :: st) σ bc bs) : gc_G θ K M Post pc L (va_rf r :: st) σ bc bs := by
  subst e
  have hk : gc_k σ a = 8 ∨ gc_k σ a = 9 ∨ gc_k σ a = 10 ∨ gc_k σ a = 11 := by have := ha.2; omega
  rcases hk with hk | hk | hk | hk
  · exact gc_get (k := 8) (j := 1) (C := RX10) (T := TX10) (N := 10) rfl (by decide) rfl in_X10 (by decide) h hc q514 (fun _ h9 => h9) ⟨ha.1, hk⟩ d kk
  · exact gc_get (k := 9) (j := 1) (C := RX11) (T := TX11) (N := 10) rfl (by decide) rfl in_X11 (by decide) h hc q514 (fun _ h9 => h9) ⟨ha.1, hk⟩ d kk
  · exact gc_get (k := 10) (j := 1) (C := RX12) (T := TX12) (N := 10) rfl (by decide) rfl in_X12 (by decide) h hc q514 (fun _ h9 => h9) ⟨ha.1, hk⟩ d kk
  · exact gc_get (k := 11) (j := 1) (C := RX13) (T := TX13) (N := 10) rfl (by decide) rfl in_X13 (by decide) h hc q514 (fun _ h9 => h9) ⟨ha.1, hk⟩ d kk
theorem gcg_X0_204 (h : gc_K θ K M) (hc : (gx_My M).cls = "BranchMender") {r : Option Nat} {a : Nat} (e : r = some a) (ha : gc_isN σ a) (d : decode (gx_Mc M) pc = .ok (.getfield 204, 3)) (kk : gc_G θ K M Post (pc + 3) L (va_rf (gc_R σ 802 a) :: st) σ bc bs) : gc_G θ K M Post pc L (va_rf r :: st) σ bc bs := by
  subst e
  have hk : gc_k σ a = 8 ∨ gc_k σ a = 9 ∨ gc_k σ a = 10 ∨ gc_k σ a = 11 := by have := ha.2; omega
  rcases hk with hk | hk | hk | hk
  · exact gc_get (k := 8) (j := 2) (C := RX10) (T := TX10) (N := 10) rfl (by decide) rfl in_X10 (by decide) h hc q524 (fun _ h9 => h9) ⟨ha.1, hk⟩ d kk
  · exact gc_get (k := 9) (j := 2) (C := RX11) (T := TX11) (N := 10) rfl (by decide) rfl in_X11 (by decide) h hc q524 (fun _ h9 => h9) ⟨ha.1, hk⟩ d kk
  · exact gc_get (k := 10) (j := 2) (C := RX12) (T := TX12) (N := 10) rfl (by decide) rfl in_X12 (by decide) h hc q524 (fun _ h9 => h9) ⟨ha.1, hk⟩ d kk
  · exact gc_get (k := 11) (j := 2) (C := RX13) (T := TX13) (N := 10) rfl (by decide) rfl in_X13 (by decide) h hc q524 (fun _ h9 => h9) ⟨ha.1, hk⟩ d kk
theorem gcg_X0_265 (h : gc_K θ K M) (hc : (gx_My M).cls = "BranchMender") {r : Option Nat} {a : Nat} (e : r = some a) (ha : gc_is σ a 4) (d : decode (gx_Mc M) pc = .ok (.getfield 265, 3)) (kk : gc_G θ K M Post (pc + 3) L (va_rf (gc_R σ 400 a) :: st) σ bc bs) : gc_G θ K M Post pc L (va_rf r :: st) σ bc bs := by
  subst e
  exact gc_getN (k := 4) (j := 0) (C := RX4) (T := TX4) (N := 7) rfl (by decide) rfl in_X4 (by decide) h hc q240 (fun _ h9 => h9) ha d kk
theorem gcg_X0_272 (h : gc_K θ K M) (hc : (gx_My M).cls = "BranchMender") {r : Option Nat} {a : Nat} (e : r = some a) (ha : gc_is σ a 0) (d : decode (gx_Mc M) pc = .ok (.getfield 272, 3)) (kk : gc_G θ K M Post (pc + 3) L (.int (gc_I σ 17 a) :: st) σ bc bs) : gc_G θ K M Post pc L (va_rf r :: st) σ bc bs := by
  subst e
  exact gc_get (k := 0) (j := 17) (C := RX0) (T := TX0) (N := 21) rfl (by decide) rfl in_X0 (by decide) h hc q360 (fun _ h9 => h9) ha d kk
theorem gcg_X0_279 (h : gc_K θ K M) (hc : (gx_My M).cls = "BranchMender") {r : Option Nat} {a : Nat} (e : r = some a) (ha : gc_is σ a 0) (d : decode (gx_Mc M) pc = .ok (.getfield 279, 3)) (kk : gc_G θ K M Post (pc + 3) L (.int (gc_I σ 12 a) :: st) σ bc bs) : gc_G θ K M Post pc L (va_rf r :: st) σ bc bs := by
  subst e
  exact gc_get (k := 0) (j := 12) (C := RX0) (T := TX0) (N := 21) rfl (by decide) rfl in_X0 (by decide) h hc q355 (fun _ h9 => h9) ha d kk
theorem gcg_X0_283 (h : gc_K θ K M) (hc : (gx_My M).cls = "BranchMender") {r : Option Nat} {a : Nat} (e : r = some a) (ha : gc_is σ a 0) (d : decode (gx_Mc M) pc = .ok (.getfield 283, 3)) (kk : gc_G θ K M Post (pc + 3) L (.int (gc_I σ 13 a) :: st) σ bc bs) : gc_G θ K M Post pc L (va_rf r :: st) σ bc bs := by
  subst e
  exact gc_get (k := 0) (j := 13) (C := RX0) (T := TX0) (N := 21) rfl (by decide) rfl in_X0 (by decide) h hc q356 (fun _ h9 => h9) ha d kk
theorem gcg_X0_286 (h : gc_K θ K M) (hc : (gx_My M).cls = "BranchMender") {r : Option Nat} {a : Nat} (e : r = some a) (ha : gc_is σ a 0) (d : decode (gx_Mc M) pc = .ok (.getfield 286, 3)) (kk : gc_G θ K M Post (pc + 3) L (.int (gc_I σ 14 a) :: st) σ bc bs) : gc_G θ K M Post pc L (va_rf r :: st) σ bc bs := by
  subst e
  exact gc_get (k := 0) (j := 14) (C := RX0) (T := TX0) (N := 21) rfl (by decide) rfl in_X0 (by decide) h hc q357 (fun _ h9 => h9) ha d kk
theorem gcg_X0_289 (h : gc_K θ K M) (hc : (gx_My M).cls = "BranchMender") {r : Option Nat} {a : Nat} (e : r = some a) (ha : gc_is σ a 4) (d : decode (gx_Mc M) pc = .ok (.getfield 289, 3)) (kk : gc_G θ K M Post (pc + 3) L (va_rf (gc_R σ 405 a) :: st) σ bc bs) : gc_G θ K M Post pc L (va_rf r :: st) σ bc bs := by
  subst e
  exact gc_getN (k := 4) (j := 5) (C := RX4) (T := TX4) (N := 7) rfl (by decide) rfl in_X4 (by decide) h hc q246 (fun _ h9 => h9) ha d kk
theorem gcg_X0_300 (h : gc_K θ K M) (hc : (gx_My M).cls = "BranchMender") {r : Option Nat} {a : Nat} (e : r = some a) (ha : gc_is σ a 4) (d : decode (gx_Mc M) pc = .ok (.getfield 300, 3)) (kk : gc_G θ K M Post (pc + 3) L (va_rf (gc_R σ 406 a) :: st) σ bc bs) : gc_G θ K M Post pc L (va_rf r :: st) σ bc bs := by
  subst e
  exact gc_getN (k := 4) (j := 6) (C := RX4) (T := TX4) (N := 7) rfl (by decide) rfl in_X4 (by decide) h hc q248 (fun _ h9 => h9) ha d kk
theorem gcg_X0_304 (h : gc_K θ K M) (hc : (gx_My M).cls = "BranchMender") {r : Option Nat} {a : Nat} (e : r = some a) (ha : gc_is σ a 7) (d : decode (gx_Mc M) pc = .ok (.getfield 304, 3)) (kk : gc_G θ K M Post (pc + 3) L (va_rf (gc_R σ 702 a) :: st) σ bc bs) : gc_G θ K M Post pc L (va_rf r :: st) σ bc bs := by
  subst e
  exact gc_getN (k := 7) (j := 2) (C := RX8) (T := TX8) (N := 5) rfl (by decide) rfl in_X8 (by decide) h hc q716 (fun _ h9 => h9) ha d kk
theorem gcg_X0_306 (h : gc_K θ K M) (hc : (gx_My M).cls = "BranchMender") {r : Option Nat} {a : Nat} (e : r = some a) (ha : gc_isN σ a) (d : decode (gx_Mc M) pc = .ok (.getfield 306, 3)) (kk : gc_G θ K M Post (pc + 3) L (.int (gc_I σ 805 a) :: st) σ bc bs) : gc_G θ K M Post pc L (va_rf r :: st) σ bc bs := by
  subst e
  have hk : gc_k σ a = 8 ∨ gc_k σ a = 9 ∨ gc_k σ a = 10 ∨ gc_k σ a = 11 := by have := ha.2; omega
  rcases hk with hk | hk | hk | hk
  · exact gc_get (k := 8) (j := 5) (C := RX10) (T := TX10) (N := 10) rfl (by decide) rfl in_X10 (by decide) h hc q540 (fun _ h9 => h9) ⟨ha.1, hk⟩ d kk
  · exact gc_get (k := 9) (j := 5) (C := RX11) (T := TX11) (N := 10) rfl (by decide) rfl in_X11 (by decide) h hc q540 (fun _ h9 => h9) ⟨ha.1, hk⟩ d kk
  · exact gc_get (k := 10) (j := 5) (C := RX12) (T := TX12) (N := 10) rfl (by decide) rfl in_X12 (by decide) h hc q540 (fun _ h9 => h9) ⟨ha.1, hk⟩ d kk
  · exact gc_get (k := 11) (j := 5) (C := RX13) (T := TX13) (N := 10) rfl (by decide) rfl in_X13 (by decide) h hc q540 (fun _ h9 => h9) ⟨ha.1, hk⟩ d kk
theorem gcg_X0_314 (h : gc_K θ K M) (hc : (gx_My M).cls = "BranchMender") {r : Option Nat} {a : Nat} (e : r = some a) (ha : gc_isN σ a) (d : decode (gx_Mc M) pc = .ok (.getfield 314, 3)) (kk : gc_G θ K M Post (pc + 3) L (.int (gc_I σ 809 a) :: st) σ bc bs) : gc_G θ K M Post pc L (va_rf r :: st) σ bc bs := by
  subst e
  have hk : gc_k σ a = 8 ∨ gc_k σ a = 9 ∨ gc_k σ a = 10 ∨ gc_k σ a = 11 := by have := ha.2; omega
  rcases hk with hk | hk | hk | hk
  · exact gc_get (k := 8) (j := 9) (C := RX10) (T := TX10) (N := 10) rfl (by decide) rfl in_X10 (by decide) h hc q549 (fun _ h9 => h9) ⟨ha.1, hk⟩ d kk
  · exact gc_get (k := 9) (j := 9) (C := RX11) (T := TX11) (N := 10) rfl (by decide) rfl in_X11 (by decide) h hc q549 (fun _ h9 => h9) ⟨ha.1, hk⟩ d kk
  · exact gc_get (k := 10) (j := 9) (C := RX12) (T := TX12) (N := 10) rfl (by decide) rfl in_X12 (by decide) h hc q549 (fun _ h9 => h9) ⟨ha.1, hk⟩ d kk
  · exact gc_get (k := 11) (j := 9) (C := RX13) (T := TX13) (N := 10) rfl (by decide) rfl in_X13 (by decide) h hc q549 (fun _ h9 => h9) ⟨ha.1, hk⟩ d kk
theorem gcg_X0_317 (h : gc_K θ K M) (hc : (gx_My M).cls = "BranchMender") {r : Option Nat} {a : Nat} (e : r = some a) (ha : gc_is σ a 5) (d : decode (gx_Mc M) pc = .ok (.getfield 317, 3)) (kk : gc_G θ K M Post (pc + 3) L (.int (gc_I σ 501 a) :: st) σ bc bs) : gc_G θ K M Post pc L (va_rf r :: st) σ bc bs := by
  subst e
  exact gc_getN (k := 5) (j := 1) (C := RX5) (T := TX5) (N := 2) rfl (by decide) rfl in_X5 (by decide) h hc q274 (fun _ h9 => h9) ha d kk
theorem gcg_X0_324 (h : gc_K θ K M) (hc : (gx_My M).cls = "BranchMender") {r : Option Nat} {a : Nat} (e : r = some a) (ha : gc_is σ a 0) (d : decode (gx_Mc M) pc = .ok (.getfield 324, 3)) (kk : gc_G θ K M Post (pc + 3) L (.int (gc_I σ 11 a) :: st) σ bc bs) : gc_G θ K M Post pc L (va_rf r :: st) σ bc bs := by
  subst e
  exact gc_get (k := 0) (j := 11) (C := RX0) (T := TX0) (N := 21) rfl (by decide) rfl in_X0 (by decide) h hc q354 (fun _ h9 => h9) ha d kk
theorem gcg_X0_327 (h : gc_K θ K M) (hc : (gx_My M).cls = "BranchMender") {r : Option Nat} {a : Nat} (e : r = some a) (ha : gc_is σ a 6) (d : decode (gx_Mc M) pc = .ok (.getfield 327, 3)) (kk : gc_G θ K M Post (pc + 3) L (.int (gc_I σ 603 a) :: st) σ bc bs) : gc_G θ K M Post pc L (va_rf r :: st) σ bc bs := by
  subst e
  exact gc_getN (k := 6) (j := 3) (C := RX6) (T := TX6) (N := 9) rfl (by decide) rfl in_X6 (by decide) h hc q318 (fun _ h9 => h9) ha d kk
theorem gcg_X0_329 (h : gc_K θ K M) (hc : (gx_My M).cls = "BranchMender") {r : Option Nat} {a : Nat} (e : r = some a) (ha : gc_is σ a 6) (d : decode (gx_Mc M) pc = .ok (.getfield 329, 3)) (kk : gc_G θ K M Post (pc + 3) L (va_rf (gc_R σ 601 a) :: st) σ bc bs) : gc_G θ K M Post pc L (va_rf r :: st) σ bc bs := by
  subst e
  exact gc_getN (k := 6) (j := 1) (C := RX6) (T := TX6) (N := 9) rfl (by decide) rfl in_X6 (by decide) h hc q314 (fun _ h9 => h9) ha d kk
theorem gcg_X0_332 (h : gc_K θ K M) (hc : (gx_My M).cls = "BranchMender") {r : Option Nat} {a : Nat} (e : r = some a) (ha : gc_is σ a 6) (d : decode (gx_Mc M) pc = .ok (.getfield 332, 3)) (kk : gc_G θ K M Post (pc + 3) L (va_rf (gc_R σ 602 a) :: st) σ bc bs) : gc_G θ K M Post pc L (va_rf r :: st) σ bc bs := by
  subst e
  exact gc_getN (k := 6) (j := 2) (C := RX6) (T := TX6) (N := 9) rfl (by decide) rfl in_X6 (by decide) h hc q316 (fun _ h9 => h9) ha d kk
theorem gcp_X0_36 (h : gc_K θ K M) (hc : (gx_My M).cls = "BranchMender") (hi2 : (gx_My M).name = "<init>") {r : Option Nat} {a : Nat} {v : Option Nat} (e : r = some a) (ha : gc_is σ a 0) (d : decode (gx_Mc M) pc = .ok (.putfield 36, 3)) (kk : gc_G θ K M Post (pc + 3) L st (gc_sR σ 0 a v) bc bs) : gc_G θ K M Post pc L (va_rf v :: va_rf r :: st) σ bc bs := by
  subst e
  exact gc_putF (k := 0) (j := 0) (C := RX0) (T := TX0) (N := 21) (ty := (.object "BranchMender$Finding")) (σ' := gc_sR σ 0 a v) rfl (by decide) rfl in_X0 tyX0_ok nmX0 (by decide) h hc hi2 q343 (fun _ h9 => h9) rfl rfl (by decide +kernel) (gc_nar_o _ v).1 (gc_nar_o _ v).2 ha rfl rfl rfl rfl rfl (gc_sR_v (by decide)).1 (gc_sR_v (by decide)).2 d kk
theorem gcp_X0_40 (h : gc_K θ K M) (hc : (gx_My M).cls = "BranchMender") (hi2 : (gx_My M).name = "<init>") {r : Option Nat} {a : Nat} {v : Option Nat} (e : r = some a) (ha : gc_is σ a 0) (d : decode (gx_Mc M) pc = .ok (.putfield 40, 3)) (kk : gc_G θ K M Post (pc + 3) L st (gc_sR σ 1 a v) bc bs) : gc_G θ K M Post pc L (va_rf v :: va_rf r :: st) σ bc bs := by
  subst e
  exact gc_putF (k := 0) (j := 1) (C := RX0) (T := TX0) (N := 21) (ty := (.array .int)) (σ' := gc_sR σ 1 a v) rfl (by decide) rfl in_X0 tyX0_ok nmX0 (by decide) h hc hi2 q344 (fun _ h9 => h9) rfl rfl (by decide +kernel) (gc_nar_a _ v).1 (gc_nar_a _ v).2 ha rfl rfl rfl rfl rfl (gc_sR_v (by decide)).1 (gc_sR_v (by decide)).2 d kk
theorem gcp_X0_46 (h : gc_K θ K M) (hc : (gx_My M).cls = "BranchMender") (hi2 : (gx_My M).name = "<init>") {r : Option Nat} {a : Nat} {v : Option Nat} (e : r = some a) (ha : gc_is σ a 0) (d : decode (gx_Mc M) pc = .ok (.putfield 46, 3)) (kk : gc_G θ K M Post (pc + 3) L st (gc_sR σ 2 a v) bc bs) : gc_G θ K M Post pc L (va_rf v :: va_rf r :: st) σ bc bs := by
  subst e
  exact gc_putF (k := 0) (j := 2) (C := RX0) (T := TX0) (N := 21) (ty := (.array (.object "BranchMender$Tree"))) (σ' := gc_sR σ 2 a v) rfl (by decide) rfl in_X0 tyX0_ok nmX0 (by decide) h hc hi2 q345 (fun _ h9 => h9) rfl rfl (by decide +kernel) (gc_nar_a _ v).1 (gc_nar_a _ v).2 ha rfl rfl rfl rfl rfl (gc_sR_v (by decide)).1 (gc_sR_v (by decide)).2 d kk
theorem gcp_X0_50 (h : gc_K θ K M) (hc : (gx_My M).cls = "BranchMender") (hi2 : (gx_My M).name = "<init>") {r : Option Nat} {a : Nat} {v : Option Nat} (e : r = some a) (ha : gc_is σ a 0) (d : decode (gx_Mc M) pc = .ok (.putfield 50, 3)) (kk : gc_G θ K M Post (pc + 3) L st (gc_sR σ 4 a v) bc bs) : gc_G θ K M Post pc L (va_rf v :: va_rf r :: st) σ bc bs := by
  subst e
  exact gc_putF (k := 0) (j := 4) (C := RX0) (T := TX0) (N := 21) (ty := (.array .byte)) (σ' := gc_sR σ 4 a v) rfl (by decide) rfl in_X0 tyX0_ok nmX0 (by decide) h hc hi2 q347 (fun _ h9 => h9) rfl rfl (by decide +kernel) (gc_nar_a _ v).1 (gc_nar_a _ v).2 ha rfl rfl rfl rfl rfl (gc_sR_v (by decide)).1 (gc_sR_v (by decide)).2 d kk
theorem gcp_X0_59 (h : gc_K θ K M) (hc : (gx_My M).cls = "BranchMender") (hi2 : (gx_My M).name = "<init>") {r : Option Nat} {a : Nat} {v : Option Nat} (e : r = some a) (ha : gc_is σ a 0) (d : decode (gx_Mc M) pc = .ok (.putfield 59, 3)) (kk : gc_G θ K M Post (pc + 3) L st (gc_sR σ 6 a v) bc bs) : gc_G θ K M Post pc L (va_rf v :: va_rf r :: st) σ bc bs := by
  subst e
  exact gc_putF (k := 0) (j := 6) (C := RX0) (T := TX0) (N := 21) (ty := (.object "BranchMender$Reader")) (σ' := gc_sR σ 6 a v) rfl (by decide) rfl in_X0 tyX0_ok nmX0 (by decide) h hc hi2 q349 (fun _ h9 => h9) rfl rfl (by decide +kernel) (gc_nar_o _ v).1 (gc_nar_o _ v).2 ha rfl rfl rfl rfl rfl (gc_sR_v (by decide)).1 (gc_sR_v (by decide)).2 d kk
theorem gcp_X0_66 (h : gc_K θ K M) (hc : (gx_My M).cls = "BranchMender") (hi2 : (gx_My M).name = "<init>") {r : Option Nat} {a : Nat} {v : Option Nat} (e : r = some a) (ha : gc_is σ a 0) (d : decode (gx_Mc M) pc = .ok (.putfield 66, 3)) (kk : gc_G θ K M Post (pc + 3) L st (gc_sR σ 7 a v) bc bs) : gc_G θ K M Post pc L (va_rf v :: va_rf r :: st) σ bc bs := by
  subst e
  exact gc_putF (k := 0) (j := 7) (C := RX0) (T := TX0) (N := 21) (ty := (.object "BranchMender$Pen")) (σ' := gc_sR σ 7 a v) rfl (by decide) rfl in_X0 tyX0_ok nmX0 (by decide) h hc hi2 q350 (fun _ h9 => h9) rfl rfl (by decide +kernel) (gc_nar_o _ v).1 (gc_nar_o _ v).2 ha rfl rfl rfl rfl rfl (gc_sR_v (by decide)).1 (gc_sR_v (by decide)).2 d kk
theorem gcp_X0_73 (h : gc_K θ K M) (hc : (gx_My M).cls = "BranchMender") (hi2 : (gx_My M).name = "<init>") {r : Option Nat} {a : Nat} {v : Option Nat} (e : r = some a) (ha : gc_is σ a 0) (d : decode (gx_Mc M) pc = .ok (.putfield 73, 3)) (kk : gc_G θ K M Post (pc + 3) L st (gc_sR σ 8 a v) bc bs) : gc_G θ K M Post pc L (va_rf v :: va_rf r :: st) σ bc bs := by
  subst e
  exact gc_putF (k := 0) (j := 8) (C := RX0) (T := TX0) (N := 21) (ty := (.object "BranchMender$Mapper")) (σ' := gc_sR σ 8 a v) rfl (by decide) rfl in_X0 tyX0_ok nmX0 (by decide) h hc hi2 q351 (fun _ h9 => h9) rfl rfl (by decide +kernel) (gc_nar_o _ v).1 (gc_nar_o _ v).2 ha rfl rfl rfl rfl rfl (gc_sR_v (by decide)).1 (gc_sR_v (by decide)).2 d kk
theorem gcp_X0_80 (h : gc_K θ K M) (hc : (gx_My M).cls = "BranchMender") (hi2 : (gx_My M).name = "<init>") {r : Option Nat} {a : Nat} {v : Option Nat} (e : r = some a) (ha : gc_is σ a 0) (d : decode (gx_Mc M) pc = .ok (.putfield 80, 3)) (kk : gc_G θ K M Post (pc + 3) L st (gc_sR σ 9 a v) bc bs) : gc_G θ K M Post pc L (va_rf v :: va_rf r :: st) σ bc bs := by
  subst e
  exact gc_putF (k := 0) (j := 9) (C := RX0) (T := TX0) (N := 21) (ty := (.object "BranchMender$Kinds")) (σ' := gc_sR σ 9 a v) rfl (by decide) rfl in_X0 tyX0_ok nmX0 (by decide) h hc hi2 q352 (fun _ h9 => h9) rfl rfl (by decide +kernel) (gc_nar_o _ v).1 (gc_nar_o _ v).2 ha rfl rfl rfl rfl rfl (gc_sR_v (by decide)).1 (gc_sR_v (by decide)).2 d kk
theorem gcp_X0_87 (h : gc_K θ K M) (hc : (gx_My M).cls = "BranchMender") (hi2 : (gx_My M).name = "<init>") {r : Option Nat} {a : Nat} {v : Option Nat} (e : r = some a) (ha : gc_is σ a 0) (d : decode (gx_Mc M) pc = .ok (.putfield 87, 3)) (kk : gc_G θ K M Post (pc + 3) L st (gc_sR σ 10 a v) bc bs) : gc_G θ K M Post pc L (va_rf v :: va_rf r :: st) σ bc bs := by
  subst e
  exact gc_putF (k := 0) (j := 10) (C := RX0) (T := TX0) (N := 21) (ty := (.object "BranchMender$Merger")) (σ' := gc_sR σ 10 a v) rfl (by decide) rfl in_X0 tyX0_ok nmX0 (by decide) h hc hi2 q353 (fun _ h9 => h9) rfl rfl (by decide +kernel) (gc_nar_o _ v).1 (gc_nar_o _ v).2 ha rfl rfl rfl rfl rfl (gc_sR_v (by decide)).1 (gc_sR_v (by decide)).2 d kk
theorem gcp_X0_91 (h : gc_K θ K M) (hc : (gx_My M).cls = "BranchMender") (hi2 : (gx_My M).name = "<init>") {r : Option Nat} {a : Nat} {v : Option Nat} (e : r = some a) (ha : gc_is σ a 0) (d : decode (gx_Mc M) pc = .ok (.putfield 91, 3)) (kk : gc_G θ K M Post (pc + 3) L st (gc_sR σ 15 a v) bc bs) : gc_G θ K M Post pc L (va_rf v :: va_rf r :: st) σ bc bs := by
  subst e
  exact gc_putF (k := 0) (j := 15) (C := RX0) (T := TX0) (N := 21) (ty := (.array .int)) (σ' := gc_sR σ 15 a v) rfl (by decide) rfl in_X0 tyX0_ok nmX0 (by decide) h hc hi2 q358 (fun _ h9 => h9) rfl rfl (by decide +kernel) (gc_nar_a _ v).1 (gc_nar_a _ v).2 ha rfl rfl rfl rfl rfl (gc_sR_v (by decide)).1 (gc_sR_v (by decide)).2 d kk
theorem gcp_X0_94 (h : gc_K θ K M) (hc : (gx_My M).cls = "BranchMender") (hi2 : (gx_My M).name = "<init>") {r : Option Nat} {a : Nat} {v : Option Nat} (e : r = some a) (ha : gc_is σ a 0) (d : decode (gx_Mc M) pc = .ok (.putfield 94, 3)) (kk : gc_G θ K M Post (pc + 3) L st (gc_sR σ 16 a v) bc bs) : gc_G θ K M Post pc L (va_rf v :: va_rf r :: st) σ bc bs := by
  subst e
  exact gc_putF (k := 0) (j := 16) (C := RX0) (T := TX0) (N := 21) (ty := (.array .int)) (σ' := gc_sR σ 16 a v) rfl (by decide) rfl in_X0 tyX0_ok nmX0 (by decide) h hc hi2 q359 (fun _ h9 => h9) rfl rfl (by decide +kernel) (gc_nar_a _ v).1 (gc_nar_a _ v).2 ha rfl rfl rfl rfl rfl (gc_sR_v (by decide)).1 (gc_sR_v (by decide)).2 d kk
theorem gcp_X0_97 (h : gc_K θ K M) (hc : (gx_My M).cls = "BranchMender") (hi2 : (gx_My M).name = "<init>") {r : Option Nat} {a : Nat} {v : Option Nat} (e : r = some a) (ha : gc_is σ a 0) (d : decode (gx_Mc M) pc = .ok (.putfield 97, 3)) (kk : gc_G θ K M Post (pc + 3) L st (gc_sR σ 18 a v) bc bs) : gc_G θ K M Post pc L (va_rf v :: va_rf r :: st) σ bc bs := by
  subst e
  exact gc_putF (k := 0) (j := 18) (C := RX0) (T := TX0) (N := 21) (ty := (.array .int)) (σ' := gc_sR σ 18 a v) rfl (by decide) rfl in_X0 tyX0_ok nmX0 (by decide) h hc hi2 q361 (fun _ h9 => h9) rfl rfl (by decide +kernel) (gc_nar_a _ v).1 (gc_nar_a _ v).2 ha rfl rfl rfl rfl rfl (gc_sR_v (by decide)).1 (gc_sR_v (by decide)).2 d kk
theorem gcp_X0_100 (h : gc_K θ K M) (hc : (gx_My M).cls = "BranchMender") (hi2 : (gx_My M).name = "<init>") {r : Option Nat} {a : Nat} {v : Option Nat} (e : r = some a) (ha : gc_is σ a 0) (d : decode (gx_Mc M) pc = .ok (.putfield 100, 3)) (kk : gc_G θ K M Post (pc + 3) L st (gc_sR σ 19 a v) bc bs) : gc_G θ K M Post pc L (va_rf v :: va_rf r :: st) σ bc bs := by
  subst e
  exact gc_putF (k := 0) (j := 19) (C := RX0) (T := TX0) (N := 21) (ty := (.array .int)) (σ' := gc_sR σ 19 a v) rfl (by decide) rfl in_X0 tyX0_ok nmX0 (by decide) h hc hi2 q362 (fun _ h9 => h9) rfl rfl (by decide +kernel) (gc_nar_a _ v).1 (gc_nar_a _ v).2 ha rfl rfl rfl rfl rfl (gc_sR_v (by decide)).1 (gc_sR_v (by decide)).2 d kk
theorem gcp_X0_103 (h : gc_K θ K M) (hc : (gx_My M).cls = "BranchMender") (hi2 : (gx_My M).name = "<init>") {r : Option Nat} {a : Nat} {v : Option Nat} (e : r = some a) (ha : gc_is σ a 0) (d : decode (gx_Mc M) pc = .ok (.putfield 103, 3)) (kk : gc_G θ K M Post (pc + 3) L st (gc_sR σ 20 a v) bc bs) : gc_G θ K M Post pc L (va_rf v :: va_rf r :: st) σ bc bs := by
  subst e
  exact gc_putF (k := 0) (j := 20) (C := RX0) (T := TX0) (N := 21) (ty := (.array .int)) (σ' := gc_sR σ 20 a v) rfl (by decide) rfl in_X0 tyX0_ok nmX0 (by decide) h hc hi2 q363 (fun _ h9 => h9) rfl rfl (by decide +kernel) (gc_nar_a _ v).1 (gc_nar_a _ v).2 ha rfl rfl rfl rfl rfl (gc_sR_v (by decide)).1 (gc_sR_v (by decide)).2 d kk
theorem gcp_X0_118 (h : gc_K θ K M) (hc : (gx_My M).cls = "BranchMender") {r : Option Nat} {a : Nat} {v : Int32} (e : r = some a) (ha : gc_isN σ a) (d : decode (gx_Mc M) pc = .ok (.putfield 118, 3)) (kk : gc_G θ K M Post (pc + 3) L st (gc_sI σ 800 a v) bc bs) : gc_G θ K M Post pc L (.int v :: va_rf r :: st) σ bc bs := by
  subst e
  have hk : gc_k σ a = 8 ∨ gc_k σ a = 9 ∨ gc_k σ a = 10 ∨ gc_k σ a = 11 := by have := ha.2; omega
  rcases hk with hk | hk | hk | hk
  · exact gc_put (k := 8) (j := 0) (C := RX10) (T := TX10) (N := 10) (ty := .int) (σ' := gc_sI σ 800 a v) rfl (by decide) rfl in_X10 tyX10_ok nmX10 (by decide) h hc q502 (fun _ h9 => h9) rfl (by decide +kernel) rfl rfl ⟨ha.1, hk⟩ rfl rfl rfl rfl rfl (gc_sI_v (by decide)).1 (gc_sI_v (by decide)).2 d kk
  · exact gc_put (k := 9) (j := 0) (C := RX11) (T := TX11) (N := 10) (ty := .int) (σ' := gc_sI σ 800 a v) rfl (by decide) rfl in_X11 tyX11_ok nmX11 (by decide) h hc q502 (fun _ h9 => h9) rfl (by decide +kernel) rfl rfl ⟨ha.1, hk⟩ rfl rfl rfl rfl rfl (gc_sI_v (by decide)).1 (gc_sI_v (by decide)).2 d kk
  · exact gc_put (k := 10) (j := 0) (C := RX12) (T := TX12) (N := 10) (ty := .int) (σ' := gc_sI σ 800 a v) rfl (by decide) rfl in_X12 tyX12_ok nmX12 (by decide) h hc q502 (fun _ h9 => h9) rfl (by decide +kernel) rfl rfl ⟨ha.1, hk⟩ rfl rfl rfl rfl rfl (gc_sI_v (by decide)).1 (gc_sI_v (by decide)).2 d kk
  · exact gc_put (k := 11) (j := 0) (C := RX13) (T := TX13) (N := 10) (ty := .int) (σ' := gc_sI σ 800 a v) rfl (by decide) rfl in_X13 tyX13_ok nmX13 (by decide) h hc q502 (fun _ h9 => h9) rfl (by decide +kernel) rfl rfl ⟨ha.1, hk⟩ rfl rfl rfl rfl rfl (gc_sI_v (by decide)).1 (gc_sI_v (by decide)).2 d kk
theorem gcp_X0_135 (h : gc_K θ K M) (hc : (gx_My M).cls = "BranchMender") {r : Option Nat} {a : Nat} {v : Int32} (e : r = some a) (ha : gc_is σ a 0) (d : decode (gx_Mc M) pc = .ok (.putfield 135, 3)) (kk : gc_G θ K M Post (pc + 3) L st (gc_sI σ 5 a v) bc bs) : gc_G θ K M Post pc L (.int v :: va_rf r :: st) σ bc bs := by
  subst e
  exact gc_put (k := 0) (j := 5) (C := RX0) (T := TX0) (N := 21) (ty := .int) (σ' := gc_sI σ 5 a v) rfl (by decide) rfl in_X0 tyX0_ok nmX0 (by decide) h hc q348 (fun _ h9 => h9) rfl (by decide +kernel) rfl rfl ha rfl rfl rfl rfl rfl (gc_sI_v (by decide)).1 (gc_sI_v (by decide)).2 d kk
theorem gcp_X0_159 (h : gc_K θ K M) (hc : (gx_My M).cls = "BranchMender") {r : Option Nat} {a : Nat} {v : Int32} (e : r = some a) (ha : gc_is σ a 0) (d : decode (gx_Mc M) pc = .ok (.putfield 159, 3)) (kk : gc_G θ K M Post (pc + 3) L st (gc_sI σ 3 a v) bc bs) : gc_G θ K M Post pc L (.int v :: va_rf r :: st) σ bc bs := by
  subst e
  exact gc_put (k := 0) (j := 3) (C := RX0) (T := TX0) (N := 21) (ty := .int) (σ' := gc_sI σ 3 a v) rfl (by decide) rfl in_X0 tyX0_ok nmX0 (by decide) h hc q346 (fun _ h9 => h9) rfl (by decide +kernel) rfl rfl ha rfl rfl rfl rfl rfl (gc_sI_v (by decide)).1 (gc_sI_v (by decide)).2 d kk
theorem gcp_X0_166 (h : gc_K θ K M) (hc : (gx_My M).cls = "BranchMender") {r : Option Nat} {a : Nat} {v : Int32} (e : r = some a) (ha : gc_is σ a 3) (d : decode (gx_Mc M) pc = .ok (.putfield 166, 3)) (kk : gc_G θ K M Post (pc + 3) L st (gc_sI σ 301 a v) bc bs) : gc_G θ K M Post pc L (.int v :: va_rf r :: st) σ bc bs := by
  subst e
  exact gc_putN (k := 3) (j := 1) (C := RX3) (T := TX3) (N := 2) (ty := .int) (σ' := gc_sI σ 301 a v) rfl (by decide) rfl in_X3 tyX3_ok nmX3 (by decide) h hc q223 (fun _ h9 => h9) rfl (by decide +kernel) rfl rfl ha rfl rfl rfl rfl rfl (gc_sI_v (by decide)).1 (gc_sI_v (by decide)).2 d kk
theorem gcp_X0_201 (h : gc_K θ K M) (hc : (gx_My M).cls = "BranchMender") {r : Option Nat} {a : Nat} {v : Option Nat} (e : r = some a) (ha : gc_isN σ a) (d : decode (gx_Mc M) pc = .ok (.putfield 201, 3)) (kk : gc_G θ K M Post (pc + 3) L st (gc_sR σ 801 a v) bc bs) : gc_G θ K M Post pc L (va_rf v :: va_rf r :: st) σ bc bs := by
  subst e
  have hk : gc_k σ a = 8 ∨ gc_k σ a = 9 ∨ gc_k σ a = 10 ∨ gc_k σ a = 11 := by have := ha.2; omega
  rcases hk with hk | hk | hk | hk
  · exact gc_put (k := 8) (j := 1) (C := RX10) (T := TX10) (N := 10) (ty := (.array .byte)) (σ' := gc_sR σ 801 a v) rfl (by decide) rfl in_X10 tyX10_ok nmX10 (by decide) h hc q514 (fun _ h9 => h9) rfl (by decide +kernel) (gc_nar_a _ v).1 (gc_nar_a _ v).2 ⟨ha.1, hk⟩ rfl rfl rfl rfl rfl (gc_sR_v (by decide)).1 (gc_sR_v (by decide)).2 d kk
  · exact gc_put (k := 9) (j := 1) (C := RX11) (T := TX11) (N := 10) (ty := (.array .byte)) (σ' := gc_sR σ 801 a v) rfl (by decide) rfl in_X11 tyX11_ok nmX11 (by decide) h hc q514 (fun _ h9 => h9) rfl (by decide +kernel) (gc_nar_a _ v).1 (gc_nar_a _ v).2 ⟨ha.1, hk⟩ rfl rfl rfl rfl rfl (gc_sR_v (by decide)).1 (gc_sR_v (by decide)).2 d kk
  · exact gc_put (k := 10) (j := 1) (C := RX12) (T := TX12) (N := 10) (ty := (.array .byte)) (σ' := gc_sR σ 801 a v) rfl (by decide) rfl in_X12 tyX12_ok nmX12 (by decide) h hc q514 (fun _ h9 => h9) rfl (by decide +kernel) (gc_nar_a _ v).1 (gc_nar_a _ v).2 ⟨ha.1, hk⟩ rfl rfl rfl rfl rfl (gc_sR_v (by decide)).1 (gc_sR_v (by decide)).2 d kk
  · exact gc_put (k := 11) (j := 1) (C := RX13) (T := TX13) (N := 10) (ty := (.array .byte)) (σ' := gc_sR σ 801 a v) rfl (by decide) rfl in_X13 tyX13_ok nmX13 (by decide) h hc q514 (fun _ h9 => h9) rfl (by decide +kernel) (gc_nar_a _ v).1 (gc_nar_a _ v).2 ⟨ha.1, hk⟩ rfl rfl rfl rfl rfl (gc_sR_v (by decide)).1 (gc_sR_v (by decide)).2 d kk
theorem gcp_X0_204 (h : gc_K θ K M) (hc : (gx_My M).cls = "BranchMender") {r : Option Nat} {a : Nat} {v : Option Nat} (e : r = some a) (ha : gc_isN σ a) (d : decode (gx_Mc M) pc = .ok (.putfield 204, 3)) (kk : gc_G θ K M Post (pc + 3) L st (gc_sR σ 802 a v) bc bs) : gc_G θ K M Post pc L (va_rf v :: va_rf r :: st) σ bc bs := by
  subst e
  have hk : gc_k σ a = 8 ∨ gc_k σ a = 9 ∨ gc_k σ a = 10 ∨ gc_k σ a = 11 := by have := ha.2; omega
  rcases hk with hk | hk | hk | hk
  · exact gc_put (k := 8) (j := 2) (C := RX10) (T := TX10) (N := 10) (ty := (.array .byte)) (σ' := gc_sR σ 802 a v) rfl (by decide) rfl in_X10 tyX10_ok nmX10 (by decide) h hc q524 (fun _ h9 => h9) rfl (by decide +kernel) (gc_nar_a _ v).1 (gc_nar_a _ v).2 ⟨ha.1, hk⟩ rfl rfl rfl rfl rfl (gc_sR_v (by decide)).1 (gc_sR_v (by decide)).2 d kk
  · exact gc_put (k := 9) (j := 2) (C := RX11) (T := TX11) (N := 10) (ty := (.array .byte)) (σ' := gc_sR σ 802 a v) rfl (by decide) rfl in_X11 tyX11_ok nmX11 (by decide) h hc q524 (fun _ h9 => h9) rfl (by decide +kernel) (gc_nar_a _ v).1 (gc_nar_a _ v).2 ⟨ha.1, hk⟩ rfl rfl rfl rfl rfl (gc_sR_v (by decide)).1 (gc_sR_v (by decide)).2 d kk
  · exact gc_put (k := 10) (j := 2) (C := RX12) (T := TX12) (N := 10) (ty := (.array .byte)) (σ' := gc_sR σ 802 a v) rfl (by decide) rfl in_X12 tyX12_ok nmX12 (by decide) h hc q524 (fun _ h9 => h9) rfl (by decide +kernel) (gc_nar_a _ v).1 (gc_nar_a _ v).2 ⟨ha.1, hk⟩ rfl rfl rfl rfl rfl (gc_sR_v (by decide)).1 (gc_sR_v (by decide)).2 d kk
  · exact gc_put (k := 11) (j := 2) (C := RX13) (T := TX13) (N := 10) (ty := (.array .byte)) (σ' := gc_sR σ 802 a v) rfl (by decide) rfl in_X13 tyX13_ok nmX13 (by decide) h hc q524 (fun _ h9 => h9) rfl (by decide +kernel) (gc_nar_a _ v).1 (gc_nar_a _ v).2 ⟨ha.1, hk⟩ rfl rfl rfl rfl rfl (gc_sR_v (by decide)).1 (gc_sR_v (by decide)).2 d kk
theorem gcp_X0_272 (h : gc_K θ K M) (hc : (gx_My M).cls = "BranchMender") {r : Option Nat} {a : Nat} {v : Int32} (e : r = some a) (ha : gc_is σ a 0) (d : decode (gx_Mc M) pc = .ok (.putfield 272, 3)) (kk : gc_G θ K M Post (pc + 3) L st (gc_sI σ 17 a v) bc bs) : gc_G θ K M Post pc L (.int v :: va_rf r :: st) σ bc bs := by
  subst e
  exact gc_put (k := 0) (j := 17) (C := RX0) (T := TX0) (N := 21) (ty := .int) (σ' := gc_sI σ 17 a v) rfl (by decide) rfl in_X0 tyX0_ok nmX0 (by decide) h hc q360 (fun _ h9 => h9) rfl (by decide +kernel) rfl rfl ha rfl rfl rfl rfl rfl (gc_sI_v (by decide)).1 (gc_sI_v (by decide)).2 d kk
theorem gcp_X0_279 (h : gc_K θ K M) (hc : (gx_My M).cls = "BranchMender") {r : Option Nat} {a : Nat} {v : Int32} (e : r = some a) (ha : gc_is σ a 0) (hn : narrow .boolean (.int v) = .int v) (hf : fits .boolean (.int v) = true) (d : decode (gx_Mc M) pc = .ok (.putfield 279, 3)) (kk : gc_G θ K M Post (pc + 3) L st (gc_sI σ 12 a v) bc bs) : gc_G θ K M Post pc L (.int v :: va_rf r :: st) σ bc bs := by
  subst e
  exact gc_put (k := 0) (j := 12) (C := RX0) (T := TX0) (N := 21) (ty := .boolean) (σ' := gc_sI σ 12 a v) rfl (by decide) rfl in_X0 tyX0_ok nmX0 (by decide) h hc q355 (fun _ h9 => h9) rfl (by decide +kernel) hn hf ha rfl rfl rfl rfl rfl (gc_sI_v (by decide)).1 (gc_sI_v (by decide)).2 d kk
theorem gcp_X0_283 (h : gc_K θ K M) (hc : (gx_My M).cls = "BranchMender") {r : Option Nat} {a : Nat} {v : Int32} (e : r = some a) (ha : gc_is σ a 0) (d : decode (gx_Mc M) pc = .ok (.putfield 283, 3)) (kk : gc_G θ K M Post (pc + 3) L st (gc_sI σ 13 a v) bc bs) : gc_G θ K M Post pc L (.int v :: va_rf r :: st) σ bc bs := by
  subst e
  exact gc_put (k := 0) (j := 13) (C := RX0) (T := TX0) (N := 21) (ty := .int) (σ' := gc_sI σ 13 a v) rfl (by decide) rfl in_X0 tyX0_ok nmX0 (by decide) h hc q356 (fun _ h9 => h9) rfl (by decide +kernel) rfl rfl ha rfl rfl rfl rfl rfl (gc_sI_v (by decide)).1 (gc_sI_v (by decide)).2 d kk
theorem gcp_X0_286 (h : gc_K θ K M) (hc : (gx_My M).cls = "BranchMender") {r : Option Nat} {a : Nat} {v : Int32} (e : r = some a) (ha : gc_is σ a 0) (d : decode (gx_Mc M) pc = .ok (.putfield 286, 3)) (kk : gc_G θ K M Post (pc + 3) L st (gc_sI σ 14 a v) bc bs) : gc_G θ K M Post pc L (.int v :: va_rf r :: st) σ bc bs := by
  subst e
  exact gc_put (k := 0) (j := 14) (C := RX0) (T := TX0) (N := 21) (ty := .int) (σ' := gc_sI σ 14 a v) rfl (by decide) rfl in_X0 tyX0_ok nmX0 (by decide) h hc q357 (fun _ h9 => h9) rfl (by decide +kernel) rfl rfl ha rfl rfl rfl rfl rfl (gc_sI_v (by decide)).1 (gc_sI_v (by decide)).2 d kk
theorem gcp_X0_324 (h : gc_K θ K M) (hc : (gx_My M).cls = "BranchMender") {r : Option Nat} {a : Nat} {v : Int32} (e : r = some a) (ha : gc_is σ a 0) (d : decode (gx_Mc M) pc = .ok (.putfield 324, 3)) (kk : gc_G θ K M Post (pc + 3) L st (gc_sI σ 11 a v) bc bs) : gc_G θ K M Post pc L (.int v :: va_rf r :: st) σ bc bs := by
  subst e
  exact gc_put (k := 0) (j := 11) (C := RX0) (T := TX0) (N := 21) (ty := .int) (σ' := gc_sI σ 11 a v) rfl (by decide) rfl in_X0 tyX0_ok nmX0 (by decide) h hc q354 (fun _ h9 => h9) rfl (by decide +kernel) rfl rfl ha rfl rfl rfl rfl rfl (gc_sI_v (by decide)).1 (gc_sI_v (by decide)).2 d kk
theorem gcp_X1_7 (h : gc_K θ K M) (hc : (gx_My M).cls = "BranchMender$Finding") {r : Option Nat} {a : Nat} {v : Int32} (e : r = some a) (ha : gc_is σ a 1) (d : decode (gx_Mc M) pc = .ok (.putfield 7, 3)) (kk : gc_G θ K M Post (pc + 3) L st (gc_sI σ 106 a v) bc bs) : gc_G θ K M Post pc L (.int v :: va_rf r :: st) σ bc bs := by
  subst e
  exact gc_put (k := 1) (j := 6) (C := RX1) (T := TX1) (N := 7) (ty := .int) (σ' := gc_sI σ 106 a v) rfl (by decide) rfl in_X1 tyX1_ok nmX1 (by decide) h hc q171 (fun _ h9 => h9) rfl (by decide +kernel) rfl rfl ha rfl rfl rfl rfl rfl (gc_sI_v (by decide)).1 (gc_sI_v (by decide)).2 d kk
theorem gcg_X10_7 (h : gc_K θ K M) (hc : (gx_My M).cls = "BranchMender$Branch") {r : Option Nat} {a : Nat} (e : r = some a) (ha : a ∈ gc_d σ ∧ (gc_k σ a = 8 ∨ gc_k σ a = 9 ∨ gc_k σ a = 10)) (d : decode (gx_Mc M) pc = .ok (.getfield 7, 3)) (kk : gc_G θ K M Post (pc + 3) L (va_rf (gc_R σ 804 a) :: st) σ bc bs) : gc_G θ K M Post pc L (va_rf r :: st) σ bc bs := by
  subst e
  rcases ha.2 with hk | hk | hk
  · exact gc_get (k := 8) (j := 4) (C := RX10) (T := TX10) (N := 10) rfl (by decide) rfl in_X10 (by decide) h hc q528 (fun x9 h9 => u_same (h.2.2.2.2.1 _ q529) x9 h9) ⟨ha.1, hk⟩ d kk
  · exact gc_get (k := 9) (j := 4) (C := RX11) (T := TX11) (N := 10) rfl (by decide) rfl in_X11 (by decide) h hc q528 (fun x9 h9 => u_same (h.2.2.2.2.1 _ q529) x9 h9) ⟨ha.1, hk⟩ d kk
  · exact gc_get (k := 10) (j := 4) (C := RX12) (T := TX12) (N := 10) rfl (by decide) rfl in_X12 (by decide) h hc q528 (fun x9 h9 => u_same (h.2.2.2.2.1 _ q529) x9 h9) ⟨ha.1, hk⟩ d kk
theorem gcg_X12_11 (h : gc_K θ K M) (hc : (gx_My M).cls = "BranchMender$Keyed") {r : Option Nat} {a : Nat} (e : r = some a) (ha : gc_is σ a 10) (d : decode (gx_Mc M) pc = .ok (.getfield 11, 3)) (kk : gc_G θ K M Post (pc + 3) L (va_rf (gc_R σ 804 a) :: st) σ bc bs) : gc_G θ K M Post pc L (va_rf r :: st) σ bc bs := by
  subst e
  exact gc_get (k := 10) (j := 4) (C := RX12) (T := TX12) (N := 10) rfl (by decide) rfl in_X12 (by decide) h hc q530 (fun x9 h9 => u_same (h.2.2.2.2.1 _ q531) x9 h9) ha d kk
theorem gcg_X12_28 (h : gc_K θ K M) (hc : (gx_My M).cls = "BranchMender$Keyed") {r : Option Nat} {a : Nat} (e : r = some a) (ha : gc_isN σ a) (d : decode (gx_Mc M) pc = .ok (.getfield 28, 3)) (kk : gc_G θ K M Post (pc + 3) L (va_rf (gc_R σ 801 a) :: st) σ bc bs) : gc_G θ K M Post pc L (va_rf r :: st) σ bc bs := by
  subst e
  have hk : gc_k σ a = 8 ∨ gc_k σ a = 9 ∨ gc_k σ a = 10 ∨ gc_k σ a = 11 := by have := ha.2; omega
  rcases hk with hk | hk | hk | hk
  · exact gc_get (k := 8) (j := 1) (C := RX10) (T := TX10) (N := 10) rfl (by decide) rfl in_X10 (by decide) h hc q505 (fun _ h9 => h9) ⟨ha.1, hk⟩ d kk
  · exact gc_get (k := 9) (j := 1) (C := RX11) (T := TX11) (N := 10) rfl (by decide) rfl in_X11 (by decide) h hc q505 (fun _ h9 => h9) ⟨ha.1, hk⟩ d kk
  · exact gc_get (k := 10) (j := 1) (C := RX12) (T := TX12) (N := 10) rfl (by decide) rfl in_X12 (by decide) h hc q505 (fun _ h9 => h9) ⟨ha.1, hk⟩ d kk
  · exact gc_get (k := 11) (j := 1) (C := RX13) (T := TX13) (N := 10) rfl (by decide) rfl in_X13 (by decide) h hc q505 (fun _ h9 => h9) ⟨ha.1, hk⟩ d kk
theorem gcg_X13_11 (h : gc_K θ K M) (hc : (gx_My M).cls = "BranchMender$Whole") {r : Option Nat} {a : Nat} (e : r = some a) (ha : gc_is σ a 11) (d : decode (gx_Mc M) pc = .ok (.getfield 11, 3)) (kk : gc_G θ K M Post (pc + 3) L (va_rf (gc_R σ 801 a) :: st) σ bc bs) : gc_G θ K M Post pc L (va_rf r :: st) σ bc bs := by
  subst e
  exact gc_get (k := 11) (j := 1) (C := RX13) (T := TX13) (N := 10) rfl (by decide) rfl in_X13 (by decide) h hc q507 (fun x9 h9 => u_same (h.2.2.2.2.1 _ q508) x9 h9) ha d kk
theorem gcg_X13_17 (h : gc_K θ K M) (hc : (gx_My M).cls = "BranchMender$Whole") {r : Option Nat} {a : Nat} (e : r = some a) (ha : gc_isN σ a) (d : decode (gx_Mc M) pc = .ok (.getfield 17, 3)) (kk : gc_G θ K M Post (pc + 3) L (va_rf (gc_R σ 801 a) :: st) σ bc bs) : gc_G θ K M Post pc L (va_rf r :: st) σ bc bs := by
  subst e
  have hk : gc_k σ a = 8 ∨ gc_k σ a = 9 ∨ gc_k σ a = 10 ∨ gc_k σ a = 11 := by have := ha.2; omega
  rcases hk with hk | hk | hk | hk
  · exact gc_get (k := 8) (j := 1) (C := RX10) (T := TX10) (N := 10) rfl (by decide) rfl in_X10 (by decide) h hc q510 (fun _ h9 => h9) ⟨ha.1, hk⟩ d kk
  · exact gc_get (k := 9) (j := 1) (C := RX11) (T := TX11) (N := 10) rfl (by decide) rfl in_X11 (by decide) h hc q510 (fun _ h9 => h9) ⟨ha.1, hk⟩ d kk
  · exact gc_get (k := 10) (j := 1) (C := RX12) (T := TX12) (N := 10) rfl (by decide) rfl in_X12 (by decide) h hc q510 (fun _ h9 => h9) ⟨ha.1, hk⟩ d kk
  · exact gc_get (k := 11) (j := 1) (C := RX13) (T := TX13) (N := 10) rfl (by decide) rfl in_X13 (by decide) h hc q510 (fun _ h9 => h9) ⟨ha.1, hk⟩ d kk
theorem gcg_X13_24 (h : gc_K θ K M) (hc : (gx_My M).cls = "BranchMender$Whole") {r : Option Nat} {a : Nat} (e : r = some a) (ha : gc_is σ a 11) (d : decode (gx_Mc M) pc = .ok (.getfield 24, 3)) (kk : gc_G θ K M Post (pc + 3) L (va_rf (gc_R σ 802 a) :: st) σ bc bs) : gc_G θ K M Post pc L (va_rf r :: st) σ bc bs := by
  subst e
  exact gc_get (k := 11) (j := 2) (C := RX13) (T := TX13) (N := 10) rfl (by decide) rfl in_X13 (by decide) h hc q519 (fun x9 h9 => u_same (h.2.2.2.2.1 _ q520) x9 h9) ha d kk
theorem gcg_X13_27 (h : gc_K θ K M) (hc : (gx_My M).cls = "BranchMender$Whole") {r : Option Nat} {a : Nat} (e : r = some a) (ha : gc_isN σ a) (d : decode (gx_Mc M) pc = .ok (.getfield 27, 3)) (kk : gc_G θ K M Post (pc + 3) L (va_rf (gc_R σ 802 a) :: st) σ bc bs) : gc_G θ K M Post pc L (va_rf r :: st) σ bc bs := by
  subst e
  have hk : gc_k σ a = 8 ∨ gc_k σ a = 9 ∨ gc_k σ a = 10 ∨ gc_k σ a = 11 := by have := ha.2; omega
  rcases hk with hk | hk | hk | hk
  · exact gc_get (k := 8) (j := 2) (C := RX10) (T := TX10) (N := 10) rfl (by decide) rfl in_X10 (by decide) h hc q521 (fun _ h9 => h9) ⟨ha.1, hk⟩ d kk
  · exact gc_get (k := 9) (j := 2) (C := RX11) (T := TX11) (N := 10) rfl (by decide) rfl in_X11 (by decide) h hc q521 (fun _ h9 => h9) ⟨ha.1, hk⟩ d kk
  · exact gc_get (k := 10) (j := 2) (C := RX12) (T := TX12) (N := 10) rfl (by decide) rfl in_X12 (by decide) h hc q521 (fun _ h9 => h9) ⟨ha.1, hk⟩ d kk
  · exact gc_get (k := 11) (j := 2) (C := RX13) (T := TX13) (N := 10) rfl (by decide) rfl in_X13 (by decide) h hc q521 (fun _ h9 => h9) ⟨ha.1, hk⟩ d kk
theorem gcg_X2_9 (h : gc_K θ K M) (hc : (gx_My M).cls = "BranchMender$Reader") {r : Option Nat} {a : Nat} (e : r = some a) (ha : gc_is σ a 2) (d : decode (gx_Mc M) pc = .ok (.getfield 9, 3)) (kk : gc_G θ K M Post (pc + 3) L (va_rf (gc_R σ 200 a) :: st) σ bc bs) : gc_G θ K M Post pc L (va_rf r :: st) σ bc bs := by
  subst e
  exact gc_get (k := 2) (j := 0) (C := RX2) (T := TX2) (N := 5) rfl (by decide) rfl in_X2 (by decide) h hc q196 (fun _ h9 => h9) ha d kk
theorem gcg_X2_21 (h : gc_K θ K M) (hc : (gx_My M).cls = "BranchMender$Reader") {r : Option Nat} {a : Nat} (e : r = some a) (ha : gc_is σ a 2) (d : decode (gx_Mc M) pc = .ok (.getfield 21, 3)) (kk : gc_G θ K M Post (pc + 3) L (.int (gc_I σ 203 a) :: st) σ bc bs) : gc_G θ K M Post pc L (va_rf r :: st) σ bc bs := by
  subst e
  exact gc_get (k := 2) (j := 3) (C := RX2) (T := TX2) (N := 5) rfl (by decide) rfl in_X2 (by decide) h hc q199 (fun _ h9 => h9) ha d kk
theorem gcg_X2_25 (h : gc_K θ K M) (hc : (gx_My M).cls = "BranchMender$Reader") {r : Option Nat} {a : Nat} (e : r = some a) (ha : gc_is σ a 2) (d : decode (gx_Mc M) pc = .ok (.getfield 25, 3)) (kk : gc_G θ K M Post (pc + 3) L (.int (gc_I σ 202 a) :: st) σ bc bs) : gc_G θ K M Post pc L (va_rf r :: st) σ bc bs := by
  subst e
  exact gc_get (k := 2) (j := 2) (C := RX2) (T := TX2) (N := 5) rfl (by decide) rfl in_X2 (by decide) h hc q198 (fun _ h9 => h9) ha d kk
theorem gcg_X2_28 (h : gc_K θ K M) (hc : (gx_My M).cls = "BranchMender$Reader") {r : Option Nat} {a : Nat} (e : r = some a) (ha : gc_is σ a 2) (d : decode (gx_Mc M) pc = .ok (.getfield 28, 3)) (kk : gc_G θ K M Post (pc + 3) L (va_rf (gc_R σ 201 a) :: st) σ bc bs) : gc_G θ K M Post pc L (va_rf r :: st) σ bc bs := by
  subst e
  exact gc_get (k := 2) (j := 1) (C := RX2) (T := TX2) (N := 5) rfl (by decide) rfl in_X2 (by decide) h hc q197 (fun _ h9 => h9) ha d kk
theorem gcg_X2_32 (h : gc_K θ K M) (hc : (gx_My M).cls = "BranchMender$Reader") {r : Option Nat} {a : Nat} (e : r = some a) (ha : gc_is σ a 2) (d : decode (gx_Mc M) pc = .ok (.getfield 32, 3)) (kk : gc_G θ K M Post (pc + 3) L (.int (gc_I σ 204 a) :: st) σ bc bs) : gc_G θ K M Post pc L (va_rf r :: st) σ bc bs := by
  subst e
  exact gc_get (k := 2) (j := 4) (C := RX2) (T := TX2) (N := 5) rfl (by decide) rfl in_X2 (by decide) h hc q200 (fun _ h9 => h9) ha d kk
theorem gcg_X2_62 (h : gc_K θ K M) (hc : (gx_My M).cls = "BranchMender$Reader") {r : Option Nat} {a : Nat} (e : r = some a) (ha : gc_isN σ a) (d : decode (gx_Mc M) pc = .ok (.getfield 62, 3)) (kk : gc_G θ K M Post (pc + 3) L (va_rf (gc_R σ 801 a) :: st) σ bc bs) : gc_G θ K M Post pc L (va_rf r :: st) σ bc bs := by
  subst e
  have hk : gc_k σ a = 8 ∨ gc_k σ a = 9 ∨ gc_k σ a = 10 ∨ gc_k σ a = 11 := by have := ha.2; omega
  rcases hk with hk | hk | hk | hk
  · exact gc_get (k := 8) (j := 1) (C := RX10) (T := TX10) (N := 10) rfl (by decide) rfl in_X10 (by decide) h hc q513 (fun _ h9 => h9) ⟨ha.1, hk⟩ d kk
  · exact gc_get (k := 9) (j := 1) (C := RX11) (T := TX11) (N := 10) rfl (by decide) rfl in_X11 (by decide) h hc q513 (fun _ h9 => h9) ⟨ha.1, hk⟩ d kk
  · exact gc_get (k := 10) (j := 1) (C := RX12) (T := TX12) (N := 10) rfl (by decide) rfl in_X12 (by decide) h hc q513 (fun _ h9 => h9) ⟨ha.1, hk⟩ d kk
  · exact gc_get (k := 11) (j := 1) (C := RX13) (T := TX13) (N := 10) rfl (by decide) rfl in_X13 (by decide) h hc q513 (fun _ h9 => h9) ⟨ha.1, hk⟩ d kk
theorem gcg_X2_82 (h : gc_K θ K M) (hc : (gx_My M).cls = "BranchMender$Reader") {r : Option Nat} {a : Nat} (e : r = some a) (ha : gc_isN σ a) (d : decode (gx_Mc M) pc = .ok (.getfield 82, 3)) (kk : gc_G θ K M Post (pc + 3) L (va_rf (gc_R σ 804 a) :: st) σ bc bs) : gc_G θ K M Post pc L (va_rf r :: st) σ bc bs := by
  subst e
  have hk : gc_k σ a = 8 ∨ gc_k σ a = 9 ∨ gc_k σ a = 10 ∨ gc_k σ a = 11 := by have := ha.2; omega
  rcases hk with hk | hk | hk | hk
  · exact gc_get (k := 8) (j := 4) (C := RX10) (T := TX10) (N := 10) rfl (by decide) rfl in_X10 (by decide) h hc q536 (fun _ h9 => h9) ⟨ha.1, hk⟩ d kk
  · exact gc_get (k := 9) (j := 4) (C := RX11) (T := TX11) (N := 10) rfl (by decide) rfl in_X11 (by decide) h hc q536 (fun _ h9 => h9) ⟨ha.1, hk⟩ d kk
  · exact gc_get (k := 10) (j := 4) (C := RX12) (T := TX12) (N := 10) rfl (by decide) rfl in_X12 (by decide) h hc q536 (fun _ h9 => h9) ⟨ha.1, hk⟩ d kk
  · exact gc_get (k := 11) (j := 4) (C := RX13) (T := TX13) (N := 10) rfl (by decide) rfl in_X13 (by decide) h hc q536 (fun _ h9 => h9) ⟨ha.1, hk⟩ d kk
theorem gcp_X2_9 (h : gc_K θ K M) (hc : (gx_My M).cls = "BranchMender$Reader") (hi2 : (gx_My M).name = "<init>") {r : Option Nat} {a : Nat} {v : Option Nat} (e : r = some a) (ha : gc_is σ a 2) (d : decode (gx_Mc M) pc = .ok (.putfield 9, 3)) (kk : gc_G θ K M Post (pc + 3) L st (gc_sR σ 200 a v) bc bs) : gc_G θ K M Post pc L (va_rf v :: va_rf r :: st) σ bc bs := by
  subst e
  exact gc_putF (k := 2) (j := 0) (C := RX2) (T := TX2) (N := 5) (ty := (.object "BranchMender$Finding")) (σ' := gc_sR σ 200 a v) rfl (by decide) rfl in_X2 tyX2_ok nmX2 (by decide) h hc hi2 q196 (fun _ h9 => h9) rfl rfl (by decide +kernel) (gc_nar_o _ v).1 (gc_nar_o _ v).2 ha rfl rfl rfl rfl rfl (gc_sR_v (by decide)).1 (gc_sR_v (by decide)).2 d kk
theorem gcp_X2_21 (h : gc_K θ K M) (hc : (gx_My M).cls = "BranchMender$Reader") {r : Option Nat} {a : Nat} {v : Int32} (e : r = some a) (ha : gc_is σ a 2) (d : decode (gx_Mc M) pc = .ok (.putfield 21, 3)) (kk : gc_G θ K M Post (pc + 3) L st (gc_sI σ 203 a v) bc bs) : gc_G θ K M Post pc L (.int v :: va_rf r :: st) σ bc bs := by
  subst e
  exact gc_put (k := 2) (j := 3) (C := RX2) (T := TX2) (N := 5) (ty := .int) (σ' := gc_sI σ 203 a v) rfl (by decide) rfl in_X2 tyX2_ok nmX2 (by decide) h hc q199 (fun _ h9 => h9) rfl (by decide +kernel) rfl rfl ha rfl rfl rfl rfl rfl (gc_sI_v (by decide)).1 (gc_sI_v (by decide)).2 d kk
theorem gcp_X2_25 (h : gc_K θ K M) (hc : (gx_My M).cls = "BranchMender$Reader") {r : Option Nat} {a : Nat} {v : Int32} (e : r = some a) (ha : gc_is σ a 2) (d : decode (gx_Mc M) pc = .ok (.putfield 25, 3)) (kk : gc_G θ K M Post (pc + 3) L st (gc_sI σ 202 a v) bc bs) : gc_G θ K M Post pc L (.int v :: va_rf r :: st) σ bc bs := by
  subst e
  exact gc_put (k := 2) (j := 2) (C := RX2) (T := TX2) (N := 5) (ty := .int) (σ' := gc_sI σ 202 a v) rfl (by decide) rfl in_X2 tyX2_ok nmX2 (by decide) h hc q198 (fun _ h9 => h9) rfl (by decide +kernel) rfl rfl ha rfl rfl rfl rfl rfl (gc_sI_v (by decide)).1 (gc_sI_v (by decide)).2 d kk
theorem gcp_X2_28 (h : gc_K θ K M) (hc : (gx_My M).cls = "BranchMender$Reader") {r : Option Nat} {a : Nat} {v : Option Nat} (e : r = some a) (ha : gc_is σ a 2) (d : decode (gx_Mc M) pc = .ok (.putfield 28, 3)) (kk : gc_G θ K M Post (pc + 3) L st (gc_sR σ 201 a v) bc bs) : gc_G θ K M Post pc L (va_rf v :: va_rf r :: st) σ bc bs := by
  subst e
  exact gc_put (k := 2) (j := 1) (C := RX2) (T := TX2) (N := 5) (ty := (.array .byte)) (σ' := gc_sR σ 201 a v) rfl (by decide) rfl in_X2 tyX2_ok nmX2 (by decide) h hc q197 (fun _ h9 => h9) rfl (by decide +kernel) (gc_nar_a _ v).1 (gc_nar_a _ v).2 ha rfl rfl rfl rfl rfl (gc_sR_v (by decide)).1 (gc_sR_v (by decide)).2 d kk
theorem gcp_X2_32 (h : gc_K θ K M) (hc : (gx_My M).cls = "BranchMender$Reader") {r : Option Nat} {a : Nat} {v : Int32} (e : r = some a) (ha : gc_is σ a 2) (d : decode (gx_Mc M) pc = .ok (.putfield 32, 3)) (kk : gc_G θ K M Post (pc + 3) L st (gc_sI σ 204 a v) bc bs) : gc_G θ K M Post pc L (.int v :: va_rf r :: st) σ bc bs := by
  subst e
  exact gc_put (k := 2) (j := 4) (C := RX2) (T := TX2) (N := 5) (ty := .int) (σ' := gc_sI σ 204 a v) rfl (by decide) rfl in_X2 tyX2_ok nmX2 (by decide) h hc q200 (fun _ h9 => h9) rfl (by decide +kernel) rfl rfl ha rfl rfl rfl rfl rfl (gc_sI_v (by decide)).1 (gc_sI_v (by decide)).2 d kk
theorem gcg_X3_9 (h : gc_K θ K M) (hc : (gx_My M).cls = "BranchMender$Pen") {r : Option Nat} {a : Nat} (e : r = some a) (ha : gc_is σ a 3) (d : decode (gx_Mc M) pc = .ok (.getfield 9, 3)) (kk : gc_G θ K M Post (pc + 3) L (va_rf (gc_R σ 300 a) :: st) σ bc bs) : gc_G θ K M Post pc L (va_rf r :: st) σ bc bs := by
  subst e
  exact gc_get (k := 3) (j := 0) (C := RX3) (T := TX3) (N := 2) rfl (by decide) rfl in_X3 (by decide) h hc q220 (fun _ h9 => h9) ha d kk
theorem gcg_X3_15 (h : gc_K θ K M) (hc : (gx_My M).cls = "BranchMender$Pen") {r : Option Nat} {a : Nat} (e : r = some a) (ha : gc_is σ a 3) (d : decode (gx_Mc M) pc = .ok (.getfield 15, 3)) (kk : gc_G θ K M Post (pc + 3) L (.int (gc_I σ 301 a) :: st) σ bc bs) : gc_G θ K M Post pc L (va_rf r :: st) σ bc bs := by
  subst e
  exact gc_get (k := 3) (j := 1) (C := RX3) (T := TX3) (N := 2) rfl (by decide) rfl in_X3 (by decide) h hc q222 (fun _ h9 => h9) ha d kk
theorem gcg_X3_23 (h : gc_K θ K M) (hc : (gx_My M).cls = "BranchMender$Pen") {r : Option Nat} {a : Nat} (e : r = some a) (ha : gc_isN σ a) (d : decode (gx_Mc M) pc = .ok (.getfield 23, 3)) (kk : gc_G θ K M Post (pc + 3) L (va_rf (gc_R σ 801 a) :: st) σ bc bs) : gc_G θ K M Post pc L (va_rf r :: st) σ bc bs := by
  subst e
  have hk : gc_k σ a = 8 ∨ gc_k σ a = 9 ∨ gc_k σ a = 10 ∨ gc_k σ a = 11 := by have := ha.2; omega
  rcases hk with hk | hk | hk | hk
  · exact gc_get (k := 8) (j := 1) (C := RX10) (T := TX10) (N := 10) rfl (by decide) rfl in_X10 (by decide) h hc q506 (fun _ h9 => h9) ⟨ha.1, hk⟩ d kk
  · exact gc_get (k := 9) (j := 1) (C := RX11) (T := TX11) (N := 10) rfl (by decide) rfl in_X11 (by decide) h hc q506 (fun _ h9 => h9) ⟨ha.1, hk⟩ d kk
  · exact gc_get (k := 10) (j := 1) (C := RX12) (T := TX12) (N := 10) rfl (by decide) rfl in_X12 (by decide) h hc q506 (fun _ h9 => h9) ⟨ha.1, hk⟩ d kk
  · exact gc_get (k := 11) (j := 1) (C := RX13) (T := TX13) (N := 10) rfl (by decide) rfl in_X13 (by decide) h hc q506 (fun _ h9 => h9) ⟨ha.1, hk⟩ d kk
theorem gcg_X3_31 (h : gc_K θ K M) (hc : (gx_My M).cls = "BranchMender$Pen") {r : Option Nat} {a : Nat} (e : r = some a) (ha : gc_isN σ a) (d : decode (gx_Mc M) pc = .ok (.getfield 31, 3)) (kk : gc_G θ K M Post (pc + 3) L (va_rf (gc_R σ 802 a) :: st) σ bc bs) : gc_G θ K M Post pc L (va_rf r :: st) σ bc bs := by
  subst e
  have hk : gc_k σ a = 8 ∨ gc_k σ a = 9 ∨ gc_k σ a = 10 ∨ gc_k σ a = 11 := by have := ha.2; omega
  rcases hk with hk | hk | hk | hk
  · exact gc_get (k := 8) (j := 2) (C := RX10) (T := TX10) (N := 10) rfl (by decide) rfl in_X10 (by decide) h hc q517 (fun _ h9 => h9) ⟨ha.1, hk⟩ d kk
  · exact gc_get (k := 9) (j := 2) (C := RX11) (T := TX11) (N := 10) rfl (by decide) rfl in_X11 (by decide) h hc q517 (fun _ h9 => h9) ⟨ha.1, hk⟩ d kk
  · exact gc_get (k := 10) (j := 2) (C := RX12) (T := TX12) (N := 10) rfl (by decide) rfl in_X12 (by decide) h hc q517 (fun _ h9 => h9) ⟨ha.1, hk⟩ d kk
  · exact gc_get (k := 11) (j := 2) (C := RX13) (T := TX13) (N := 10) rfl (by decide) rfl in_X13 (by decide) h hc q517 (fun _ h9 => h9) ⟨ha.1, hk⟩ d kk
theorem gcg_X3_38 (h : gc_K θ K M) (hc : (gx_My M).cls = "BranchMender$Pen") {r : Option Nat} {a : Nat} (e : r = some a) (ha : gc_isN σ a) (d : decode (gx_Mc M) pc = .ok (.getfield 38, 3)) (kk : gc_G θ K M Post (pc + 3) L (va_rf (gc_R σ 804 a) :: st) σ bc bs) : gc_G θ K M Post pc L (va_rf r :: st) σ bc bs := by
  subst e
  have hk : gc_k σ a = 8 ∨ gc_k σ a = 9 ∨ gc_k σ a = 10 ∨ gc_k σ a = 11 := by have := ha.2; omega
  rcases hk with hk | hk | hk | hk
  · exact gc_get (k := 8) (j := 4) (C := RX10) (T := TX10) (N := 10) rfl (by decide) rfl in_X10 (by decide) h hc q535 (fun _ h9 => h9) ⟨ha.1, hk⟩ d kk
  · exact gc_get (k := 9) (j := 4) (C := RX11) (T := TX11) (N := 10) rfl (by decide) rfl in_X11 (by decide) h hc q535 (fun _ h9 => h9) ⟨ha.1, hk⟩ d kk
  · exact gc_get (k := 10) (j := 4) (C := RX12) (T := TX12) (N := 10) rfl (by decide) rfl in_X12 (by decide) h hc q535 (fun _ h9 => h9) ⟨ha.1, hk⟩ d kk
  · exact gc_get (k := 11) (j := 4) (C := RX13) (T := TX13) (N := 10) rfl (by decide) rfl in_X13 (by decide) h hc q535 (fun _ h9 => h9) ⟨ha.1, hk⟩ d kk
theorem gcp_X3_9 (h : gc_K θ K M) (hc : (gx_My M).cls = "BranchMender$Pen") (hi2 : (gx_My M).name = "<init>") {r : Option Nat} {a : Nat} {v : Option Nat} (e : r = some a) (ha : gc_is σ a 3) (d : decode (gx_Mc M) pc = .ok (.putfield 9, 3)) (kk : gc_G θ K M Post (pc + 3) L st (gc_sR σ 300 a v) bc bs) : gc_G θ K M Post pc L (va_rf v :: va_rf r :: st) σ bc bs := by
  subst e
  exact gc_putF (k := 3) (j := 0) (C := RX3) (T := TX3) (N := 2) (ty := (.array .byte)) (σ' := gc_sR σ 300 a v) rfl (by decide) rfl in_X3 tyX3_ok nmX3 (by decide) h hc hi2 q220 (fun _ h9 => h9) rfl rfl (by decide +kernel) (gc_nar_a _ v).1 (gc_nar_a _ v).2 ha rfl rfl rfl rfl rfl (gc_sR_v (by decide)).1 (gc_sR_v (by decide)).2 d kk
theorem gcp_X3_15 (h : gc_K θ K M) (hc : (gx_My M).cls = "BranchMender$Pen") {r : Option Nat} {a : Nat} {v : Int32} (e : r = some a) (ha : gc_is σ a 3) (d : decode (gx_Mc M) pc = .ok (.putfield 15, 3)) (kk : gc_G θ K M Post (pc + 3) L st (gc_sI σ 301 a v) bc bs) : gc_G θ K M Post pc L (.int v :: va_rf r :: st) σ bc bs := by
  subst e
  exact gc_put (k := 3) (j := 1) (C := RX3) (T := TX3) (N := 2) (ty := .int) (σ' := gc_sI σ 301 a v) rfl (by decide) rfl in_X3 tyX3_ok nmX3 (by decide) h hc q222 (fun _ h9 => h9) rfl (by decide +kernel) rfl rfl ha rfl rfl rfl rfl rfl (gc_sI_v (by decide)).1 (gc_sI_v (by decide)).2 d kk
theorem gcg_X4_9 (h : gc_K θ K M) (hc : (gx_My M).cls = "BranchMender$Mapper") {r : Option Nat} {a : Nat} (e : r = some a) (ha : gc_is σ a 4) (d : decode (gx_Mc M) pc = .ok (.getfield 9, 3)) (kk : gc_G θ K M Post (pc + 3) L (va_rf (gc_R σ 400 a) :: st) σ bc bs) : gc_G θ K M Post pc L (va_rf r :: st) σ bc bs := by
  subst e
  exact gc_get (k := 4) (j := 0) (C := RX4) (T := TX4) (N := 7) rfl (by decide) rfl in_X4 (by decide) h hc q239 (fun _ h9 => h9) ha d kk
theorem gcg_X4_17 (h : gc_K θ K M) (hc : (gx_My M).cls = "BranchMender$Mapper") {r : Option Nat} {a : Nat} (e : r = some a) (ha : gc_is σ a 4) (d : decode (gx_Mc M) pc = .ok (.getfield 17, 3)) (kk : gc_G θ K M Post (pc + 3) L (va_rf (gc_R σ 403 a) :: st) σ bc bs) : gc_G θ K M Post pc L (va_rf r :: st) σ bc bs := by
  subst e
  exact gc_get (k := 4) (j := 3) (C := RX4) (T := TX4) (N := 7) rfl (by decide) rfl in_X4 (by decide) h hc q243 (fun _ h9 => h9) ha d kk
theorem gcg_X4_20 (h : gc_K θ K M) (hc : (gx_My M).cls = "BranchMender$Mapper") {r : Option Nat} {a : Nat} (e : r = some a) (ha : gc_is σ a 4) (d : decode (gx_Mc M) pc = .ok (.getfield 20, 3)) (kk : gc_G θ K M Post (pc + 3) L (va_rf (gc_R σ 404 a) :: st) σ bc bs) : gc_G θ K M Post pc L (va_rf r :: st) σ bc bs := by
  subst e
  exact gc_get (k := 4) (j := 4) (C := RX4) (T := TX4) (N := 7) rfl (by decide) rfl in_X4 (by decide) h hc q244 (fun _ h9 => h9) ha d kk
theorem gcg_X4_25 (h : gc_K θ K M) (hc : (gx_My M).cls = "BranchMender$Mapper") {r : Option Nat} {a : Nat} (e : r = some a) (ha : gc_is σ a 4) (d : decode (gx_Mc M) pc = .ok (.getfield 25, 3)) (kk : gc_G θ K M Post (pc + 3) L (va_rf (gc_R σ 405 a) :: st) σ bc bs) : gc_G θ K M Post pc L (va_rf r :: st) σ bc bs := by
  subst e
  exact gc_get (k := 4) (j := 5) (C := RX4) (T := TX4) (N := 7) rfl (by decide) rfl in_X4 (by decide) h hc q245 (fun _ h9 => h9) ha d kk
theorem gcg_X4_29 (h : gc_K θ K M) (hc : (gx_My M).cls = "BranchMender$Mapper") {r : Option Nat} {a : Nat} (e : r = some a) (ha : gc_is σ a 4) (d : decode (gx_Mc M) pc = .ok (.getfield 29, 3)) (kk : gc_G θ K M Post (pc + 3) L (va_rf (gc_R σ 406 a) :: st) σ bc bs) : gc_G θ K M Post pc L (va_rf r :: st) σ bc bs := by
  subst e
  exact gc_get (k := 4) (j := 6) (C := RX4) (T := TX4) (N := 7) rfl (by decide) rfl in_X4 (by decide) h hc q247 (fun _ h9 => h9) ha d kk
theorem gcg_X4_33 (h : gc_K θ K M) (hc : (gx_My M).cls = "BranchMender$Mapper") {r : Option Nat} {a : Nat} (e : r = some a) (ha : gc_isN σ a) (d : decode (gx_Mc M) pc = .ok (.getfield 33, 3)) (kk : gc_G θ K M Post (pc + 3) L (va_rf (gc_R σ 801 a) :: st) σ bc bs) : gc_G θ K M Post pc L (va_rf r :: st) σ bc bs := by
  subst e
  have hk : gc_k σ a = 8 ∨ gc_k σ a = 9 ∨ gc_k σ a = 10 ∨ gc_k σ a = 11 := by have := ha.2; omega
  rcases hk with hk | hk | hk | hk
  · exact gc_get (k := 8) (j := 1) (C := RX10) (T := TX10) (N := 10) rfl (by decide) rfl in_X10 (by decide) h hc q504 (fun _ h9 => h9) ⟨ha.1, hk⟩ d kk
  · exact gc_get (k := 9) (j := 1) (C := RX11) (T := TX11) (N := 10) rfl (by decide) rfl in_X11 (by decide) h hc q504 (fun _ h9 => h9) ⟨ha.1, hk⟩ d kk
  · exact gc_get (k := 10) (j := 1) (C := RX12) (T := TX12) (N := 10) rfl (by decide) rfl in_X12 (by decide) h hc q504 (fun _ h9 => h9) ⟨ha.1, hk⟩ d kk
  · exact gc_get (k := 11) (j := 1) (C := RX13) (T := TX13) (N := 10) rfl (by decide) rfl in_X13 (by decide) h hc q504 (fun _ h9 => h9) ⟨ha.1, hk⟩ d kk
theorem gcg_X4_41 (h : gc_K θ K M) (hc : (gx_My M).cls = "BranchMender$Mapper") {r : Option Nat} {a : Nat} (e : r = some a) (ha : gc_isN σ a) (d : decode (gx_Mc M) pc = .ok (.getfield 41, 3)) (kk : gc_G θ K M Post (pc + 3) L (va_rf (gc_R σ 802 a) :: st) σ bc bs) : gc_G θ K M Post pc L (va_rf r :: st) σ bc bs := by
  subst e
  have hk : gc_k σ a = 8 ∨ gc_k σ a = 9 ∨ gc_k σ a = 10 ∨ gc_k σ a = 11 := by have := ha.2; omega
  rcases hk with hk | hk | hk | hk
  · exact gc_get (k := 8) (j := 2) (C := RX10) (T := TX10) (N := 10) rfl (by decide) rfl in_X10 (by decide) h hc q516 (fun _ h9 => h9) ⟨ha.1, hk⟩ d kk
  · exact gc_get (k := 9) (j := 2) (C := RX11) (T := TX11) (N := 10) rfl (by decide) rfl in_X11 (by decide) h hc q516 (fun _ h9 => h9) ⟨ha.1, hk⟩ d kk
  · exact gc_get (k := 10) (j := 2) (C := RX12) (T := TX12) (N := 10) rfl (by decide) rfl in_X12 (by decide) h hc q516 (fun _ h9 => h9) ⟨ha.1, hk⟩ d kk
  · exact gc_get (k := 11) (j := 2) (C := RX13) (T := TX13) (N := 10) rfl (by decide) rfl in_X13 (by decide) h hc q516 (fun _ h9 => h9) ⟨ha.1, hk⟩ d kk
theorem gcg_X4_53 (h : gc_K θ K M) (hc : (gx_My M).cls = "BranchMender$Mapper") {r : Option Nat} {a : Nat} (e : r = some a) (ha : gc_is σ a 4) (d : decode (gx_Mc M) pc = .ok (.getfield 53, 3)) (kk : gc_G θ K M Post (pc + 3) L (va_rf (gc_R σ 401 a) :: st) σ bc bs) : gc_G θ K M Post pc L (va_rf r :: st) σ bc bs := by
  subst e
  exact gc_get (k := 4) (j := 1) (C := RX4) (T := TX4) (N := 7) rfl (by decide) rfl in_X4 (by decide) h hc q241 (fun _ h9 => h9) ha d kk
theorem gcg_X4_57 (h : gc_K θ K M) (hc : (gx_My M).cls = "BranchMender$Mapper") {r : Option Nat} {a : Nat} (e : r = some a) (ha : gc_is σ a 7) (d : decode (gx_Mc M) pc = .ok (.getfield 57, 3)) (kk : gc_G θ K M Post (pc + 3) L (va_rf (gc_R σ 702 a) :: st) σ bc bs) : gc_G θ K M Post pc L (va_rf r :: st) σ bc bs := by
  subst e
  exact gc_getN (k := 7) (j := 2) (C := RX8) (T := TX8) (N := 5) rfl (by decide) rfl in_X8 (by decide) h hc q715 (fun _ h9 => h9) ha d kk
theorem gcg_X4_62 (h : gc_K θ K M) (hc : (gx_My M).cls = "BranchMender$Mapper") {r : Option Nat} {a : Nat} (e : r = some a) (ha : gc_is σ a 4) (d : decode (gx_Mc M) pc = .ok (.getfield 62, 3)) (kk : gc_G θ K M Post (pc + 3) L (va_rf (gc_R σ 402 a) :: st) σ bc bs) : gc_G θ K M Post pc L (va_rf r :: st) σ bc bs := by
  subst e
  exact gc_get (k := 4) (j := 2) (C := RX4) (T := TX4) (N := 7) rfl (by decide) rfl in_X4 (by decide) h hc q242 (fun _ h9 => h9) ha d kk
theorem gcg_X4_72 (h : gc_K θ K M) (hc : (gx_My M).cls = "BranchMender$Mapper") {r : Option Nat} {a : Nat} (e : r = some a) (ha : gc_isN σ a) (d : decode (gx_Mc M) pc = .ok (.getfield 72, 3)) (kk : gc_G θ K M Post (pc + 3) L (.int (gc_I σ 807 a) :: st) σ bc bs) : gc_G θ K M Post pc L (va_rf r :: st) σ bc bs := by
  subst e
  have hk : gc_k σ a = 8 ∨ gc_k σ a = 9 ∨ gc_k σ a = 10 ∨ gc_k σ a = 11 := by have := ha.2; omega
  rcases hk with hk | hk | hk | hk
  · exact gc_get (k := 8) (j := 7) (C := RX10) (T := TX10) (N := 10) rfl (by decide) rfl in_X10 (by decide) h hc q544 (fun _ h9 => h9) ⟨ha.1, hk⟩ d kk
  · exact gc_get (k := 9) (j := 7) (C := RX11) (T := TX11) (N := 10) rfl (by decide) rfl in_X11 (by decide) h hc q544 (fun _ h9 => h9) ⟨ha.1, hk⟩ d kk
  · exact gc_get (k := 10) (j := 7) (C := RX12) (T := TX12) (N := 10) rfl (by decide) rfl in_X12 (by decide) h hc q544 (fun _ h9 => h9) ⟨ha.1, hk⟩ d kk
  · exact gc_get (k := 11) (j := 7) (C := RX13) (T := TX13) (N := 10) rfl (by decide) rfl in_X13 (by decide) h hc q544 (fun _ h9 => h9) ⟨ha.1, hk⟩ d kk
theorem gcg_X4_80 (h : gc_K θ K M) (hc : (gx_My M).cls = "BranchMender$Mapper") {r : Option Nat} {a : Nat} (e : r = some a) (ha : gc_is σ a 7) (d : decode (gx_Mc M) pc = .ok (.getfield 80, 3)) (kk : gc_G θ K M Post (pc + 3) L (.int (gc_I σ 703 a) :: st) σ bc bs) : gc_G θ K M Post pc L (va_rf r :: st) σ bc bs := by
  subst e
  exact gc_getN (k := 7) (j := 3) (C := RX8) (T := TX8) (N := 5) rfl (by decide) rfl in_X8 (by decide) h hc q719 (fun _ h9 => h9) ha d kk
theorem gcg_X4_94 (h : gc_K θ K M) (hc : (gx_My M).cls = "BranchMender$Mapper") {r : Option Nat} {a : Nat} (e : r = some a) (ha : gc_isN σ a) (d : decode (gx_Mc M) pc = .ok (.getfield 94, 3)) (kk : gc_G θ K M Post (pc + 3) L (.int (gc_I σ 805 a) :: st) σ bc bs) : gc_G θ K M Post pc L (va_rf r :: st) σ bc bs := by
  subst e
  have hk : gc_k σ a = 8 ∨ gc_k σ a = 9 ∨ gc_k σ a = 10 ∨ gc_k σ a = 11 := by have := ha.2; omega
  rcases hk with hk | hk | hk | hk
  · exact gc_get (k := 8) (j := 5) (C := RX10) (T := TX10) (N := 10) rfl (by decide) rfl in_X10 (by decide) h hc q539 (fun _ h9 => h9) ⟨ha.1, hk⟩ d kk
  · exact gc_get (k := 9) (j := 5) (C := RX11) (T := TX11) (N := 10) rfl (by decide) rfl in_X11 (by decide) h hc q539 (fun _ h9 => h9) ⟨ha.1, hk⟩ d kk
  · exact gc_get (k := 10) (j := 5) (C := RX12) (T := TX12) (N := 10) rfl (by decide) rfl in_X12 (by decide) h hc q539 (fun _ h9 => h9) ⟨ha.1, hk⟩ d kk
  · exact gc_get (k := 11) (j := 5) (C := RX13) (T := TX13) (N := 10) rfl (by decide) rfl in_X13 (by decide) h hc q539 (fun _ h9 => h9) ⟨ha.1, hk⟩ d kk
theorem gcp_X4_9 (h : gc_K θ K M) (hc : (gx_My M).cls = "BranchMender$Mapper") (hi2 : (gx_My M).name = "<init>") {r : Option Nat} {a : Nat} {v : Option Nat} (e : r = some a) (ha : gc_is σ a 4) (d : decode (gx_Mc M) pc = .ok (.putfield 9, 3)) (kk : gc_G θ K M Post (pc + 3) L st (gc_sR σ 400 a v) bc bs) : gc_G θ K M Post pc L (va_rf v :: va_rf r :: st) σ bc bs := by
  subst e
  exact gc_putF (k := 4) (j := 0) (C := RX4) (T := TX4) (N := 7) (ty := (.array .int)) (σ' := gc_sR σ 400 a v) rfl (by decide) rfl in_X4 tyX4_ok nmX4 (by decide) h hc hi2 q239 (fun _ h9 => h9) rfl rfl (by decide +kernel) (gc_nar_a _ v).1 (gc_nar_a _ v).2 ha rfl rfl rfl rfl rfl (gc_sR_v (by decide)).1 (gc_sR_v (by decide)).2 d kk
theorem gcp_X4_17 (h : gc_K θ K M) (hc : (gx_My M).cls = "BranchMender$Mapper") (hi2 : (gx_My M).name = "<init>") {r : Option Nat} {a : Nat} {v : Option Nat} (e : r = some a) (ha : gc_is σ a 4) (d : decode (gx_Mc M) pc = .ok (.putfield 17, 3)) (kk : gc_G θ K M Post (pc + 3) L st (gc_sR σ 403 a v) bc bs) : gc_G θ K M Post pc L (va_rf v :: va_rf r :: st) σ bc bs := by
  subst e
  exact gc_putF (k := 4) (j := 3) (C := RX4) (T := TX4) (N := 7) (ty := (.array (.array .int))) (σ' := gc_sR σ 403 a v) rfl (by decide) rfl in_X4 tyX4_ok nmX4 (by decide) h hc hi2 q243 (fun _ h9 => h9) rfl rfl (by decide +kernel) (gc_nar_a _ v).1 (gc_nar_a _ v).2 ha rfl rfl rfl rfl rfl (gc_sR_v (by decide)).1 (gc_sR_v (by decide)).2 d kk
theorem gcp_X4_20 (h : gc_K θ K M) (hc : (gx_My M).cls = "BranchMender$Mapper") (hi2 : (gx_My M).name = "<init>") {r : Option Nat} {a : Nat} {v : Option Nat} (e : r = some a) (ha : gc_is σ a 4) (d : decode (gx_Mc M) pc = .ok (.putfield 20, 3)) (kk : gc_G θ K M Post (pc + 3) L st (gc_sR σ 404 a v) bc bs) : gc_G θ K M Post pc L (va_rf v :: va_rf r :: st) σ bc bs := by
  subst e
  exact gc_putF (k := 4) (j := 4) (C := RX4) (T := TX4) (N := 7) (ty := (.array (.array .int))) (σ' := gc_sR σ 404 a v) rfl (by decide) rfl in_X4 tyX4_ok nmX4 (by decide) h hc hi2 q244 (fun _ h9 => h9) rfl rfl (by decide +kernel) (gc_nar_a _ v).1 (gc_nar_a _ v).2 ha rfl rfl rfl rfl rfl (gc_sR_v (by decide)).1 (gc_sR_v (by decide)).2 d kk
theorem gcp_X4_25 (h : gc_K θ K M) (hc : (gx_My M).cls = "BranchMender$Mapper") (hi2 : (gx_My M).name = "<init>") {r : Option Nat} {a : Nat} {v : Option Nat} (e : r = some a) (ha : gc_is σ a 4) (d : decode (gx_Mc M) pc = .ok (.putfield 25, 3)) (kk : gc_G θ K M Post (pc + 3) L st (gc_sR σ 405 a v) bc bs) : gc_G θ K M Post pc L (va_rf v :: va_rf r :: st) σ bc bs := by
  subst e
  exact gc_putF (k := 4) (j := 5) (C := RX4) (T := TX4) (N := 7) (ty := (.array (.object "BranchMender$Node"))) (σ' := gc_sR σ 405 a v) rfl (by decide) rfl in_X4 tyX4_ok nmX4 (by decide) h hc hi2 q245 (fun _ h9 => h9) rfl rfl (by decide +kernel) (gc_nar_a _ v).1 (gc_nar_a _ v).2 ha rfl rfl rfl rfl rfl (gc_sR_v (by decide)).1 (gc_sR_v (by decide)).2 d kk
theorem gcp_X4_29 (h : gc_K θ K M) (hc : (gx_My M).cls = "BranchMender$Mapper") (hi2 : (gx_My M).name = "<init>") {r : Option Nat} {a : Nat} {v : Option Nat} (e : r = some a) (ha : gc_is σ a 4) (d : decode (gx_Mc M) pc = .ok (.putfield 29, 3)) (kk : gc_G θ K M Post (pc + 3) L st (gc_sR σ 406 a v) bc bs) : gc_G θ K M Post pc L (va_rf v :: va_rf r :: st) σ bc bs := by
  subst e
  exact gc_putF (k := 4) (j := 6) (C := RX4) (T := TX4) (N := 7) (ty := (.array .boolean)) (σ' := gc_sR σ 406 a v) rfl (by decide) rfl in_X4 tyX4_ok nmX4 (by decide) h hc hi2 q247 (fun _ h9 => h9) rfl rfl (by decide +kernel) (gc_nar_a _ v).1 (gc_nar_a _ v).2 ha rfl rfl rfl rfl rfl (gc_sR_v (by decide)).1 (gc_sR_v (by decide)).2 d kk
theorem gcp_X4_53 (h : gc_K θ K M) (hc : (gx_My M).cls = "BranchMender$Mapper") {r : Option Nat} {a : Nat} {v : Option Nat} (e : r = some a) (ha : gc_is σ a 4) (d : decode (gx_Mc M) pc = .ok (.putfield 53, 3)) (kk : gc_G θ K M Post (pc + 3) L st (gc_sR σ 401 a v) bc bs) : gc_G θ K M Post pc L (va_rf v :: va_rf r :: st) σ bc bs := by
  subst e
  exact gc_put (k := 4) (j := 1) (C := RX4) (T := TX4) (N := 7) (ty := (.object "BranchMender$Tree")) (σ' := gc_sR σ 401 a v) rfl (by decide) rfl in_X4 tyX4_ok nmX4 (by decide) h hc q241 (fun _ h9 => h9) rfl (by decide +kernel) (gc_nar_o _ v).1 (gc_nar_o _ v).2 ha rfl rfl rfl rfl rfl (gc_sR_v (by decide)).1 (gc_sR_v (by decide)).2 d kk
theorem gcp_X4_62 (h : gc_K θ K M) (hc : (gx_My M).cls = "BranchMender$Mapper") {r : Option Nat} {a : Nat} {v : Option Nat} (e : r = some a) (ha : gc_is σ a 4) (d : decode (gx_Mc M) pc = .ok (.putfield 62, 3)) (kk : gc_G θ K M Post (pc + 3) L st (gc_sR σ 402 a v) bc bs) : gc_G θ K M Post pc L (va_rf v :: va_rf r :: st) σ bc bs := by
  subst e
  exact gc_put (k := 4) (j := 2) (C := RX4) (T := TX4) (N := 7) (ty := (.object "BranchMender$Tree")) (σ' := gc_sR σ 402 a v) rfl (by decide) rfl in_X4 tyX4_ok nmX4 (by decide) h hc q242 (fun _ h9 => h9) rfl (by decide +kernel) (gc_nar_o _ v).1 (gc_nar_o _ v).2 ha rfl rfl rfl rfl rfl (gc_sR_v (by decide)).1 (gc_sR_v (by decide)).2 d kk
theorem gcg_X5_11 (h : gc_K θ K M) (hc : (gx_My M).cls = "BranchMender$Kinds") {r : Option Nat} {a : Nat} (e : r = some a) (ha : gc_is σ a 5) (d : decode (gx_Mc M) pc = .ok (.getfield 11, 3)) (kk : gc_G θ K M Post (pc + 3) L (va_rf (gc_R σ 500 a) :: st) σ bc bs) : gc_G θ K M Post pc L (va_rf r :: st) σ bc bs := by
  subst e
  exact gc_get (k := 5) (j := 0) (C := RX5) (T := TX5) (N := 2) rfl (by decide) rfl in_X5 (by decide) h hc q272 (fun _ h9 => h9) ha d kk
theorem gcg_X5_17 (h : gc_K θ K M) (hc : (gx_My M).cls = "BranchMender$Kinds") {r : Option Nat} {a : Nat} (e : r = some a) (ha : gc_is σ a 5) (d : decode (gx_Mc M) pc = .ok (.getfield 17, 3)) (kk : gc_G θ K M Post (pc + 3) L (.int (gc_I σ 501 a) :: st) σ bc bs) : gc_G θ K M Post pc L (va_rf r :: st) σ bc bs := by
  subst e
  exact gc_get (k := 5) (j := 1) (C := RX5) (T := TX5) (N := 2) rfl (by decide) rfl in_X5 (by decide) h hc q273 (fun _ h9 => h9) ha d kk
theorem gcg_X5_21 (h : gc_K θ K M) (hc : (gx_My M).cls = "BranchMender$Kinds") {r : Option Nat} {a : Nat} (e : r = some a) (ha : gc_is σ a 7) (d : decode (gx_Mc M) pc = .ok (.getfield 21, 3)) (kk : gc_G θ K M Post (pc + 3) L (.int (gc_I σ 703 a) :: st) σ bc bs) : gc_G θ K M Post pc L (va_rf r :: st) σ bc bs := by
  subst e
  exact gc_getN (k := 7) (j := 3) (C := RX8) (T := TX8) (N := 5) rfl (by decide) rfl in_X8 (by decide) h hc q718 (fun _ h9 => h9) ha d kk
theorem gcg_X5_26 (h : gc_K θ K M) (hc : (gx_My M).cls = "BranchMender$Kinds") {r : Option Nat} {a : Nat} (e : r = some a) (ha : gc_is σ a 7) (d : decode (gx_Mc M) pc = .ok (.getfield 26, 3)) (kk : gc_G θ K M Post (pc + 3) L (va_rf (gc_R σ 702 a) :: st) σ bc bs) : gc_G θ K M Post pc L (va_rf r :: st) σ bc bs := by
  subst e
  exact gc_getN (k := 7) (j := 2) (C := RX8) (T := TX8) (N := 5) rfl (by decide) rfl in_X8 (by decide) h hc q714 (fun _ h9 => h9) ha d kk
theorem gcg_X5_34 (h : gc_K θ K M) (hc : (gx_My M).cls = "BranchMender$Kinds") {r : Option Nat} {a : Nat} (e : r = some a) (ha : gc_isN σ a) (d : decode (gx_Mc M) pc = .ok (.getfield 34, 3)) (kk : gc_G θ K M Post (pc + 3) L (.int (gc_I σ 809 a) :: st) σ bc bs) : gc_G θ K M Post pc L (va_rf r :: st) σ bc bs := by
  subst e
  have hk : gc_k σ a = 8 ∨ gc_k σ a = 9 ∨ gc_k σ a = 10 ∨ gc_k σ a = 11 := by have := ha.2; omega
  rcases hk with hk | hk | hk | hk
  · exact gc_get (k := 8) (j := 9) (C := RX10) (T := TX10) (N := 10) rfl (by decide) rfl in_X10 (by decide) h hc q548 (fun _ h9 => h9) ⟨ha.1, hk⟩ d kk
  · exact gc_get (k := 9) (j := 9) (C := RX11) (T := TX11) (N := 10) rfl (by decide) rfl in_X11 (by decide) h hc q548 (fun _ h9 => h9) ⟨ha.1, hk⟩ d kk
  · exact gc_get (k := 10) (j := 9) (C := RX12) (T := TX12) (N := 10) rfl (by decide) rfl in_X12 (by decide) h hc q548 (fun _ h9 => h9) ⟨ha.1, hk⟩ d kk
  · exact gc_get (k := 11) (j := 9) (C := RX13) (T := TX13) (N := 10) rfl (by decide) rfl in_X13 (by decide) h hc q548 (fun _ h9 => h9) ⟨ha.1, hk⟩ d kk
theorem gcg_X5_38 (h : gc_K θ K M) (hc : (gx_My M).cls = "BranchMender$Kinds") {r : Option Nat} {a : Nat} (e : r = some a) (ha : gc_isN σ a) (d : decode (gx_Mc M) pc = .ok (.getfield 38, 3)) (kk : gc_G θ K M Post (pc + 3) L (va_rf (gc_R σ 804 a) :: st) σ bc bs) : gc_G θ K M Post pc L (va_rf r :: st) σ bc bs := by
  subst e
  have hk : gc_k σ a = 8 ∨ gc_k σ a = 9 ∨ gc_k σ a = 10 ∨ gc_k σ a = 11 := by have := ha.2; omega
  rcases hk with hk | hk | hk | hk
  · exact gc_get (k := 8) (j := 4) (C := RX10) (T := TX10) (N := 10) rfl (by decide) rfl in_X10 (by decide) h hc q533 (fun _ h9 => h9) ⟨ha.1, hk⟩ d kk
  · exact gc_get (k := 9) (j := 4) (C := RX11) (T := TX11) (N := 10) rfl (by decide) rfl in_X11 (by decide) h hc q533 (fun _ h9 => h9) ⟨ha.1, hk⟩ d kk
  · exact gc_get (k := 10) (j := 4) (C := RX12) (T := TX12) (N := 10) rfl (by decide) rfl in_X12 (by decide) h hc q533 (fun _ h9 => h9) ⟨ha.1, hk⟩ d kk
  · exact gc_get (k := 11) (j := 4) (C := RX13) (T := TX13) (N := 10) rfl (by decide) rfl in_X13 (by decide) h hc q533 (fun _ h9 => h9) ⟨ha.1, hk⟩ d kk
theorem gcg_X5_47 (h : gc_K θ K M) (hc : (gx_My M).cls = "BranchMender$Kinds") {r : Option Nat} {a : Nat} (e : r = some a) (ha : gc_isN σ a) (d : decode (gx_Mc M) pc = .ok (.getfield 47, 3)) (kk : gc_G θ K M Post (pc + 3) L (va_rf (gc_R σ 801 a) :: st) σ bc bs) : gc_G θ K M Post pc L (va_rf r :: st) σ bc bs := by
  subst e
  have hk : gc_k σ a = 8 ∨ gc_k σ a = 9 ∨ gc_k σ a = 10 ∨ gc_k σ a = 11 := by have := ha.2; omega
  rcases hk with hk | hk | hk | hk
  · exact gc_get (k := 8) (j := 1) (C := RX10) (T := TX10) (N := 10) rfl (by decide) rfl in_X10 (by decide) h hc q509 (fun _ h9 => h9) ⟨ha.1, hk⟩ d kk
  · exact gc_get (k := 9) (j := 1) (C := RX11) (T := TX11) (N := 10) rfl (by decide) rfl in_X11 (by decide) h hc q509 (fun _ h9 => h9) ⟨ha.1, hk⟩ d kk
  · exact gc_get (k := 10) (j := 1) (C := RX12) (T := TX12) (N := 10) rfl (by decide) rfl in_X12 (by decide) h hc q509 (fun _ h9 => h9) ⟨ha.1, hk⟩ d kk
  · exact gc_get (k := 11) (j := 1) (C := RX13) (T := TX13) (N := 10) rfl (by decide) rfl in_X13 (by decide) h hc q509 (fun _ h9 => h9) ⟨ha.1, hk⟩ d kk
theorem gcg_X5_51 (h : gc_K θ K M) (hc : (gx_My M).cls = "BranchMender$Kinds") {r : Option Nat} {a : Nat} (e : r = some a) (ha : gc_isN σ a) (d : decode (gx_Mc M) pc = .ok (.getfield 51, 3)) (kk : gc_G θ K M Post (pc + 3) L (va_rf (gc_R σ 802 a) :: st) σ bc bs) : gc_G θ K M Post pc L (va_rf r :: st) σ bc bs := by
  subst e
  have hk : gc_k σ a = 8 ∨ gc_k σ a = 9 ∨ gc_k σ a = 10 ∨ gc_k σ a = 11 := by have := ha.2; omega
  rcases hk with hk | hk | hk | hk
  · exact gc_get (k := 8) (j := 2) (C := RX10) (T := TX10) (N := 10) rfl (by decide) rfl in_X10 (by decide) h hc q518 (fun _ h9 => h9) ⟨ha.1, hk⟩ d kk
  · exact gc_get (k := 9) (j := 2) (C := RX11) (T := TX11) (N := 10) rfl (by decide) rfl in_X11 (by decide) h hc q518 (fun _ h9 => h9) ⟨ha.1, hk⟩ d kk
  · exact gc_get (k := 10) (j := 2) (C := RX12) (T := TX12) (N := 10) rfl (by decide) rfl in_X12 (by decide) h hc q518 (fun _ h9 => h9) ⟨ha.1, hk⟩ d kk
  · exact gc_get (k := 11) (j := 2) (C := RX13) (T := TX13) (N := 10) rfl (by decide) rfl in_X13 (by decide) h hc q518 (fun _ h9 => h9) ⟨ha.1, hk⟩ d kk
theorem gcp_X5_11 (h : gc_K θ K M) (hc : (gx_My M).cls = "BranchMender$Kinds") (hi2 : (gx_My M).name = "<init>") {r : Option Nat} {a : Nat} {v : Option Nat} (e : r = some a) (ha : gc_is σ a 5) (d : decode (gx_Mc M) pc = .ok (.putfield 11, 3)) (kk : gc_G θ K M Post (pc + 3) L st (gc_sR σ 500 a v) bc bs) : gc_G θ K M Post pc L (va_rf v :: va_rf r :: st) σ bc bs := by
  subst e
  exact gc_putF (k := 5) (j := 0) (C := RX5) (T := TX5) (N := 2) (ty := (.array (.array .int))) (σ' := gc_sR σ 500 a v) rfl (by decide) rfl in_X5 tyX5_ok nmX5 (by decide) h hc hi2 q272 (fun _ h9 => h9) rfl rfl (by decide +kernel) (gc_nar_a _ v).1 (gc_nar_a _ v).2 ha rfl rfl rfl rfl rfl (gc_sR_v (by decide)).1 (gc_sR_v (by decide)).2 d kk
theorem gcp_X5_17 (h : gc_K θ K M) (hc : (gx_My M).cls = "BranchMender$Kinds") {r : Option Nat} {a : Nat} {v : Int32} (e : r = some a) (ha : gc_is σ a 5) (d : decode (gx_Mc M) pc = .ok (.putfield 17, 3)) (kk : gc_G θ K M Post (pc + 3) L st (gc_sI σ 501 a v) bc bs) : gc_G θ K M Post pc L (.int v :: va_rf r :: st) σ bc bs := by
  subst e
  exact gc_put (k := 5) (j := 1) (C := RX5) (T := TX5) (N := 2) (ty := .int) (σ' := gc_sI σ 501 a v) rfl (by decide) rfl in_X5 tyX5_ok nmX5 (by decide) h hc q273 (fun _ h9 => h9) rfl (by decide +kernel) rfl rfl ha rfl rfl rfl rfl rfl (gc_sI_v (by decide)).1 (gc_sI_v (by decide)).2 d kk
theorem gcp_X5_34 (h : gc_K θ K M) (hc : (gx_My M).cls = "BranchMender$Kinds") {r : Option Nat} {a : Nat} {v : Int32} (e : r = some a) (ha : gc_isN σ a) (d : decode (gx_Mc M) pc = .ok (.putfield 34, 3)) (kk : gc_G θ K M Post (pc + 3) L st (gc_sI σ 809 a v) bc bs) : gc_G θ K M Post pc L (.int v :: va_rf r :: st) σ bc bs := by
  subst e
  have hk : gc_k σ a = 8 ∨ gc_k σ a = 9 ∨ gc_k σ a = 10 ∨ gc_k σ a = 11 := by have := ha.2; omega
  rcases hk with hk | hk | hk | hk
  · exact gc_put (k := 8) (j := 9) (C := RX10) (T := TX10) (N := 10) (ty := .int) (σ' := gc_sI σ 809 a v) rfl (by decide) rfl in_X10 tyX10_ok nmX10 (by decide) h hc q548 (fun _ h9 => h9) rfl (by decide +kernel) rfl rfl ⟨ha.1, hk⟩ rfl rfl rfl rfl rfl (gc_sI_v (by decide)).1 (gc_sI_v (by decide)).2 d kk
  · exact gc_put (k := 9) (j := 9) (C := RX11) (T := TX11) (N := 10) (ty := .int) (σ' := gc_sI σ 809 a v) rfl (by decide) rfl in_X11 tyX11_ok nmX11 (by decide) h hc q548 (fun _ h9 => h9) rfl (by decide +kernel) rfl rfl ⟨ha.1, hk⟩ rfl rfl rfl rfl rfl (gc_sI_v (by decide)).1 (gc_sI_v (by decide)).2 d kk
  · exact gc_put (k := 10) (j := 9) (C := RX12) (T := TX12) (N := 10) (ty := .int) (σ' := gc_sI σ 809 a v) rfl (by decide) rfl in_X12 tyX12_ok nmX12 (by decide) h hc q548 (fun _ h9 => h9) rfl (by decide +kernel) rfl rfl ⟨ha.1, hk⟩ rfl rfl rfl rfl rfl (gc_sI_v (by decide)).1 (gc_sI_v (by decide)).2 d kk
  · exact gc_put (k := 11) (j := 9) (C := RX13) (T := TX13) (N := 10) (ty := .int) (σ' := gc_sI σ 809 a v) rfl (by decide) rfl in_X13 tyX13_ok nmX13 (by decide) h hc q548 (fun _ h9 => h9) rfl (by decide +kernel) rfl rfl ⟨ha.1, hk⟩ rfl rfl rfl rfl rfl (gc_sI_v (by decide)).1 (gc_sI_v (by decide)).2 d kk
theorem gcg_X6_12 (h : gc_K θ K M) (hc : (gx_My M).cls = "BranchMender$Merger") {r : Option Nat} {a : Nat} (e : r = some a) (ha : gc_is σ a 6) (d : decode (gx_Mc M) pc = .ok (.getfield 12, 3)) (kk : gc_G θ K M Post (pc + 3) L (va_rf (gc_R σ 600 a) :: st) σ bc bs) : gc_G θ K M Post pc L (va_rf r :: st) σ bc bs := by
  subst e
  exact gc_get (k := 6) (j := 0) (C := RX6) (T := TX6) (N := 9) rfl (by decide) rfl in_X6 (by decide) h hc q312 (fun _ h9 => h9) ha d kk
theorem gcg_X6_18 (h : gc_K θ K M) (hc : (gx_My M).cls = "BranchMender$Merger") {r : Option Nat} {a : Nat} (e : r = some a) (ha : gc_is σ a 6) (d : decode (gx_Mc M) pc = .ok (.getfield 18, 3)) (kk : gc_G θ K M Post (pc + 3) L (va_rf (gc_R σ 601 a) :: st) σ bc bs) : gc_G θ K M Post pc L (va_rf r :: st) σ bc bs := by
  subst e
  exact gc_get (k := 6) (j := 1) (C := RX6) (T := TX6) (N := 9) rfl (by decide) rfl in_X6 (by decide) h hc q313 (fun _ h9 => h9) ha d kk
theorem gcg_X6_22 (h : gc_K θ K M) (hc : (gx_My M).cls = "BranchMender$Merger") {r : Option Nat} {a : Nat} (e : r = some a) (ha : gc_is σ a 6) (d : decode (gx_Mc M) pc = .ok (.getfield 22, 3)) (kk : gc_G θ K M Post (pc + 3) L (va_rf (gc_R σ 602 a) :: st) σ bc bs) : gc_G θ K M Post pc L (va_rf r :: st) σ bc bs := by
  subst e
  exact gc_get (k := 6) (j := 2) (C := RX6) (T := TX6) (N := 9) rfl (by decide) rfl in_X6 (by decide) h hc q315 (fun _ h9 => h9) ha d kk
theorem gcg_X6_25 (h : gc_K θ K M) (hc : (gx_My M).cls = "BranchMender$Merger") {r : Option Nat} {a : Nat} (e : r = some a) (ha : gc_is σ a 6) (d : decode (gx_Mc M) pc = .ok (.getfield 25, 3)) (kk : gc_G θ K M Post (pc + 3) L (va_rf (gc_R σ 607 a) :: st) σ bc bs) : gc_G θ K M Post pc L (va_rf r :: st) σ bc bs := by
  subst e
  exact gc_get (k := 6) (j := 7) (C := RX6) (T := TX6) (N := 9) rfl (by decide) rfl in_X6 (by decide) h hc q322 (fun _ h9 => h9) ha d kk
theorem gcg_X6_28 (h : gc_K θ K M) (hc : (gx_My M).cls = "BranchMender$Merger") {r : Option Nat} {a : Nat} (e : r = some a) (ha : gc_is σ a 6) (d : decode (gx_Mc M) pc = .ok (.getfield 28, 3)) (kk : gc_G θ K M Post (pc + 3) L (.int (gc_I σ 603 a) :: st) σ bc bs) : gc_G θ K M Post pc L (va_rf r :: st) σ bc bs := by
  subst e
  exact gc_get (k := 6) (j := 3) (C := RX6) (T := TX6) (N := 9) rfl (by decide) rfl in_X6 (by decide) h hc q317 (fun _ h9 => h9) ha d kk
theorem gcg_X6_36 (h : gc_K θ K M) (hc : (gx_My M).cls = "BranchMender$Merger") {r : Option Nat} {a : Nat} (e : r = some a) (ha : gc_isN σ a) (d : decode (gx_Mc M) pc = .ok (.getfield 36, 3)) (kk : gc_G θ K M Post (pc + 3) L (va_rf (gc_R σ 804 a) :: st) σ bc bs) : gc_G θ K M Post pc L (va_rf r :: st) σ bc bs := by
  subst e
  have hk : gc_k σ a = 8 ∨ gc_k σ a = 9 ∨ gc_k σ a = 10 ∨ gc_k σ a = 11 := by have := ha.2; omega
  rcases hk with hk | hk | hk | hk
  · exact gc_get (k := 8) (j := 4) (C := RX10) (T := TX10) (N := 10) rfl (by decide) rfl in_X10 (by decide) h hc q534 (fun _ h9 => h9) ⟨ha.1, hk⟩ d kk
  · exact gc_get (k := 9) (j := 4) (C := RX11) (T := TX11) (N := 10) rfl (by decide) rfl in_X11 (by decide) h hc q534 (fun _ h9 => h9) ⟨ha.1, hk⟩ d kk
  · exact gc_get (k := 10) (j := 4) (C := RX12) (T := TX12) (N := 10) rfl (by decide) rfl in_X12 (by decide) h hc q534 (fun _ h9 => h9) ⟨ha.1, hk⟩ d kk
  · exact gc_get (k := 11) (j := 4) (C := RX13) (T := TX13) (N := 10) rfl (by decide) rfl in_X13 (by decide) h hc q534 (fun _ h9 => h9) ⟨ha.1, hk⟩ d kk
theorem gcg_X6_49 (h : gc_K θ K M) (hc : (gx_My M).cls = "BranchMender$Merger") {r : Option Nat} {a : Nat} (e : r = some a) (ha : gc_isN σ a) (d : decode (gx_Mc M) pc = .ok (.getfield 49, 3)) (kk : gc_G θ K M Post (pc + 3) L (.int (gc_I σ 800 a) :: st) σ bc bs) : gc_G θ K M Post pc L (va_rf r :: st) σ bc bs := by
  subst e
  have hk : gc_k σ a = 8 ∨ gc_k σ a = 9 ∨ gc_k σ a = 10 ∨ gc_k σ a = 11 := by have := ha.2; omega
  rcases hk with hk | hk | hk | hk
  · exact gc_get (k := 8) (j := 0) (C := RX10) (T := TX10) (N := 10) rfl (by decide) rfl in_X10 (by decide) h hc q501 (fun _ h9 => h9) ⟨ha.1, hk⟩ d kk
  · exact gc_get (k := 9) (j := 0) (C := RX11) (T := TX11) (N := 10) rfl (by decide) rfl in_X11 (by decide) h hc q501 (fun _ h9 => h9) ⟨ha.1, hk⟩ d kk
  · exact gc_get (k := 10) (j := 0) (C := RX12) (T := TX12) (N := 10) rfl (by decide) rfl in_X12 (by decide) h hc q501 (fun _ h9 => h9) ⟨ha.1, hk⟩ d kk
  · exact gc_get (k := 11) (j := 0) (C := RX13) (T := TX13) (N := 10) rfl (by decide) rfl in_X13 (by decide) h hc q501 (fun _ h9 => h9) ⟨ha.1, hk⟩ d kk
theorem gcg_X6_55 (h : gc_K θ K M) (hc : (gx_My M).cls = "BranchMender$Merger") {r : Option Nat} {a : Nat} (e : r = some a) (ha : gc_isN σ a) (d : decode (gx_Mc M) pc = .ok (.getfield 55, 3)) (kk : gc_G θ K M Post (pc + 3) L (va_rf (gc_R σ 801 a) :: st) σ bc bs) : gc_G θ K M Post pc L (va_rf r :: st) σ bc bs := by
  subst e
  have hk : gc_k σ a = 8 ∨ gc_k σ a = 9 ∨ gc_k σ a = 10 ∨ gc_k σ a = 11 := by have := ha.2; omega
  rcases hk with hk | hk | hk | hk
  · exact gc_get (k := 8) (j := 1) (C := RX10) (T := TX10) (N := 10) rfl (by decide) rfl in_X10 (by decide) h hc q512 (fun _ h9 => h9) ⟨ha.1, hk⟩ d kk
  · exact gc_get (k := 9) (j := 1) (C := RX11) (T := TX11) (N := 10) rfl (by decide) rfl in_X11 (by decide) h hc q512 (fun _ h9 => h9) ⟨ha.1, hk⟩ d kk
  · exact gc_get (k := 10) (j := 1) (C := RX12) (T := TX12) (N := 10) rfl (by decide) rfl in_X12 (by decide) h hc q512 (fun _ h9 => h9) ⟨ha.1, hk⟩ d kk
  · exact gc_get (k := 11) (j := 1) (C := RX13) (T := TX13) (N := 10) rfl (by decide) rfl in_X13 (by decide) h hc q512 (fun _ h9 => h9) ⟨ha.1, hk⟩ d kk
theorem gcg_X6_63 (h : gc_K θ K M) (hc : (gx_My M).cls = "BranchMender$Merger") {r : Option Nat} {a : Nat} (e : r = some a) (ha : gc_isN σ a) (d : decode (gx_Mc M) pc = .ok (.getfield 63, 3)) (kk : gc_G θ K M Post (pc + 3) L (va_rf (gc_R σ 802 a) :: st) σ bc bs) : gc_G θ K M Post pc L (va_rf r :: st) σ bc bs := by
  subst e
  have hk : gc_k σ a = 8 ∨ gc_k σ a = 9 ∨ gc_k σ a = 10 ∨ gc_k σ a = 11 := by have := ha.2; omega
  rcases hk with hk | hk | hk | hk
  · exact gc_get (k := 8) (j := 2) (C := RX10) (T := TX10) (N := 10) rfl (by decide) rfl in_X10 (by decide) h hc q523 (fun _ h9 => h9) ⟨ha.1, hk⟩ d kk
  · exact gc_get (k := 9) (j := 2) (C := RX11) (T := TX11) (N := 10) rfl (by decide) rfl in_X11 (by decide) h hc q523 (fun _ h9 => h9) ⟨ha.1, hk⟩ d kk
  · exact gc_get (k := 10) (j := 2) (C := RX12) (T := TX12) (N := 10) rfl (by decide) rfl in_X12 (by decide) h hc q523 (fun _ h9 => h9) ⟨ha.1, hk⟩ d kk
  · exact gc_get (k := 11) (j := 2) (C := RX13) (T := TX13) (N := 10) rfl (by decide) rfl in_X13 (by decide) h hc q523 (fun _ h9 => h9) ⟨ha.1, hk⟩ d kk
theorem gcg_X6_83 (h : gc_K θ K M) (hc : (gx_My M).cls = "BranchMender$Merger") {r : Option Nat} {a : Nat} (e : r = some a) (ha : gc_is σ a 6) (d : decode (gx_Mc M) pc = .ok (.getfield 83, 3)) (kk : gc_G θ K M Post (pc + 3) L (va_rf (gc_R σ 604 a) :: st) σ bc bs) : gc_G θ K M Post pc L (va_rf r :: st) σ bc bs := by
  subst e
  exact gc_get (k := 6) (j := 4) (C := RX6) (T := TX6) (N := 9) rfl (by decide) rfl in_X6 (by decide) h hc q319 (fun _ h9 => h9) ha d kk
theorem gcg_X6_87 (h : gc_K θ K M) (hc : (gx_My M).cls = "BranchMender$Merger") {r : Option Nat} {a : Nat} (e : r = some a) (ha : gc_is σ a 6) (d : decode (gx_Mc M) pc = .ok (.getfield 87, 3)) (kk : gc_G θ K M Post (pc + 3) L (va_rf (gc_R σ 605 a) :: st) σ bc bs) : gc_G θ K M Post pc L (va_rf r :: st) σ bc bs := by
  subst e
  exact gc_get (k := 6) (j := 5) (C := RX6) (T := TX6) (N := 9) rfl (by decide) rfl in_X6 (by decide) h hc q320 (fun _ h9 => h9) ha d kk
theorem gcg_X6_90 (h : gc_K θ K M) (hc : (gx_My M).cls = "BranchMender$Merger") {r : Option Nat} {a : Nat} (e : r = some a) (ha : gc_is σ a 6) (d : decode (gx_Mc M) pc = .ok (.getfield 90, 3)) (kk : gc_G θ K M Post (pc + 3) L (va_rf (gc_R σ 606 a) :: st) σ bc bs) : gc_G θ K M Post pc L (va_rf r :: st) σ bc bs := by
  subst e
  exact gc_get (k := 6) (j := 6) (C := RX6) (T := TX6) (N := 9) rfl (by decide) rfl in_X6 (by decide) h hc q321 (fun _ h9 => h9) ha d kk
theorem gcg_X6_93 (h : gc_K θ K M) (hc : (gx_My M).cls = "BranchMender$Merger") {r : Option Nat} {a : Nat} (e : r = some a) (ha : gc_is σ a 7) (d : decode (gx_Mc M) pc = .ok (.getfield 93, 3)) (kk : gc_G θ K M Post (pc + 3) L (va_rf (gc_R σ 700 a) :: st) σ bc bs) : gc_G θ K M Post pc L (va_rf r :: st) σ bc bs := by
  subst e
  exact gc_getN (k := 7) (j := 0) (C := RX8) (T := TX8) (N := 5) rfl (by decide) rfl in_X8 (by decide) h hc q709 (fun _ h9 => h9) ha d kk
theorem gcg_X6_102 (h : gc_K θ K M) (hc : (gx_My M).cls = "BranchMender$Merger") {r : Option Nat} {a : Nat} (e : r = some a) (ha : gc_is σ a 6) (d : decode (gx_Mc M) pc = .ok (.getfield 102, 3)) (kk : gc_G θ K M Post (pc + 3) L (.int (gc_I σ 608 a) :: st) σ bc bs) : gc_G θ K M Post pc L (va_rf r :: st) σ bc bs := by
  subst e
  exact gc_get (k := 6) (j := 8) (C := RX6) (T := TX6) (N := 9) rfl (by decide) rfl in_X6 (by decide) h hc q323 (fun _ h9 => h9) ha d kk
theorem gcg_X6_148 (h : gc_K θ K M) (hc : (gx_My M).cls = "BranchMender$Merger") {r : Option Nat} {a : Nat} (e : r = some a) (ha : gc_is σ a 7) (d : decode (gx_Mc M) pc = .ok (.getfield 148, 3)) (kk : gc_G θ K M Post (pc + 3) L (.int (gc_I σ 703 a) :: st) σ bc bs) : gc_G θ K M Post pc L (va_rf r :: st) σ bc bs := by
  subst e
  exact gc_getN (k := 7) (j := 3) (C := RX8) (T := TX8) (N := 5) rfl (by decide) rfl in_X8 (by decide) h hc q721 (fun _ h9 => h9) ha d kk
theorem gcg_X6_150 (h : gc_K θ K M) (hc : (gx_My M).cls = "BranchMender$Merger") {r : Option Nat} {a : Nat} (e : r = some a) (ha : gc_is σ a 7) (d : decode (gx_Mc M) pc = .ok (.getfield 150, 3)) (kk : gc_G θ K M Post (pc + 3) L (va_rf (gc_R σ 701 a) :: st) σ bc bs) : gc_G θ K M Post pc L (va_rf r :: st) σ bc bs := by
  subst e
  exact gc_getN (k := 7) (j := 1) (C := RX8) (T := TX8) (N := 5) rfl (by decide) rfl in_X8 (by decide) h hc q712 (fun _ h9 => h9) ha d kk
theorem gcp_X6_12 (h : gc_K θ K M) (hc : (gx_My M).cls = "BranchMender$Merger") (hi2 : (gx_My M).name = "<init>") {r : Option Nat} {a : Nat} {v : Option Nat} (e : r = some a) (ha : gc_is σ a 6) (d : decode (gx_Mc M) pc = .ok (.putfield 12, 3)) (kk : gc_G θ K M Post (pc + 3) L st (gc_sR σ 600 a v) bc bs) : gc_G θ K M Post pc L (va_rf v :: va_rf r :: st) σ bc bs := by
  subst e
  exact gc_putF (k := 6) (j := 0) (C := RX6) (T := TX6) (N := 9) (ty := (.object "java/util/ArrayList")) (σ' := gc_sR σ 600 a v) rfl (by decide) rfl in_X6 tyX6_ok nmX6 (by decide) h hc hi2 q312 (fun _ h9 => h9) rfl rfl (by decide +kernel) (gc_nar_o _ v).1 (gc_nar_o _ v).2 ha rfl rfl rfl rfl rfl (gc_sR_v (by decide)).1 (gc_sR_v (by decide)).2 d kk
theorem gcp_X6_18 (h : gc_K θ K M) (hc : (gx_My M).cls = "BranchMender$Merger") (hi2 : (gx_My M).name = "<init>") {r : Option Nat} {a : Nat} {v : Option Nat} (e : r = some a) (ha : gc_is σ a 6) (d : decode (gx_Mc M) pc = .ok (.putfield 18, 3)) (kk : gc_G θ K M Post (pc + 3) L st (gc_sR σ 601 a v) bc bs) : gc_G θ K M Post pc L (va_rf v :: va_rf r :: st) σ bc bs := by
  subst e
  exact gc_putF (k := 6) (j := 1) (C := RX6) (T := TX6) (N := 9) (ty := (.array .int)) (σ' := gc_sR σ 601 a v) rfl (by decide) rfl in_X6 tyX6_ok nmX6 (by decide) h hc hi2 q313 (fun _ h9 => h9) rfl rfl (by decide +kernel) (gc_nar_a _ v).1 (gc_nar_a _ v).2 ha rfl rfl rfl rfl rfl (gc_sR_v (by decide)).1 (gc_sR_v (by decide)).2 d kk
theorem gcp_X6_22 (h : gc_K θ K M) (hc : (gx_My M).cls = "BranchMender$Merger") (hi2 : (gx_My M).name = "<init>") {r : Option Nat} {a : Nat} {v : Option Nat} (e : r = some a) (ha : gc_is σ a 6) (d : decode (gx_Mc M) pc = .ok (.putfield 22, 3)) (kk : gc_G θ K M Post (pc + 3) L st (gc_sR σ 602 a v) bc bs) : gc_G θ K M Post pc L (va_rf v :: va_rf r :: st) σ bc bs := by
  subst e
  exact gc_putF (k := 6) (j := 2) (C := RX6) (T := TX6) (N := 9) (ty := (.array .int)) (σ' := gc_sR σ 602 a v) rfl (by decide) rfl in_X6 tyX6_ok nmX6 (by decide) h hc hi2 q315 (fun _ h9 => h9) rfl rfl (by decide +kernel) (gc_nar_a _ v).1 (gc_nar_a _ v).2 ha rfl rfl rfl rfl rfl (gc_sR_v (by decide)).1 (gc_sR_v (by decide)).2 d kk
theorem gcp_X6_25 (h : gc_K θ K M) (hc : (gx_My M).cls = "BranchMender$Merger") (hi2 : (gx_My M).name = "<init>") {r : Option Nat} {a : Nat} {v : Option Nat} (e : r = some a) (ha : gc_is σ a 6) (d : decode (gx_Mc M) pc = .ok (.putfield 25, 3)) (kk : gc_G θ K M Post (pc + 3) L st (gc_sR σ 607 a v) bc bs) : gc_G θ K M Post pc L (va_rf v :: va_rf r :: st) σ bc bs := by
  subst e
  exact gc_putF (k := 6) (j := 7) (C := RX6) (T := TX6) (N := 9) (ty := (.object "java/util/ArrayList")) (σ' := gc_sR σ 607 a v) rfl (by decide) rfl in_X6 tyX6_ok nmX6 (by decide) h hc hi2 q322 (fun _ h9 => h9) rfl rfl (by decide +kernel) (gc_nar_o _ v).1 (gc_nar_o _ v).2 ha rfl rfl rfl rfl rfl (gc_sR_v (by decide)).1 (gc_sR_v (by decide)).2 d kk
theorem gcp_X6_28 (h : gc_K θ K M) (hc : (gx_My M).cls = "BranchMender$Merger") {r : Option Nat} {a : Nat} {v : Int32} (e : r = some a) (ha : gc_is σ a 6) (d : decode (gx_Mc M) pc = .ok (.putfield 28, 3)) (kk : gc_G θ K M Post (pc + 3) L st (gc_sI σ 603 a v) bc bs) : gc_G θ K M Post pc L (.int v :: va_rf r :: st) σ bc bs := by
  subst e
  exact gc_put (k := 6) (j := 3) (C := RX6) (T := TX6) (N := 9) (ty := .int) (σ' := gc_sI σ 603 a v) rfl (by decide) rfl in_X6 tyX6_ok nmX6 (by decide) h hc q317 (fun _ h9 => h9) rfl (by decide +kernel) rfl rfl ha rfl rfl rfl rfl rfl (gc_sI_v (by decide)).1 (gc_sI_v (by decide)).2 d kk
theorem gcp_X6_83 (h : gc_K θ K M) (hc : (gx_My M).cls = "BranchMender$Merger") {r : Option Nat} {a : Nat} {v : Option Nat} (e : r = some a) (ha : gc_is σ a 6) (d : decode (gx_Mc M) pc = .ok (.putfield 83, 3)) (kk : gc_G θ K M Post (pc + 3) L st (gc_sR σ 604 a v) bc bs) : gc_G θ K M Post pc L (va_rf v :: va_rf r :: st) σ bc bs := by
  subst e
  exact gc_put (k := 6) (j := 4) (C := RX6) (T := TX6) (N := 9) (ty := (.object "BranchMender$Tree")) (σ' := gc_sR σ 604 a v) rfl (by decide) rfl in_X6 tyX6_ok nmX6 (by decide) h hc q319 (fun _ h9 => h9) rfl (by decide +kernel) (gc_nar_o _ v).1 (gc_nar_o _ v).2 ha rfl rfl rfl rfl rfl (gc_sR_v (by decide)).1 (gc_sR_v (by decide)).2 d kk
theorem gcp_X6_87 (h : gc_K θ K M) (hc : (gx_My M).cls = "BranchMender$Merger") {r : Option Nat} {a : Nat} {v : Option Nat} (e : r = some a) (ha : gc_is σ a 6) (d : decode (gx_Mc M) pc = .ok (.putfield 87, 3)) (kk : gc_G θ K M Post (pc + 3) L st (gc_sR σ 605 a v) bc bs) : gc_G θ K M Post pc L (va_rf v :: va_rf r :: st) σ bc bs := by
  subst e
  exact gc_put (k := 6) (j := 5) (C := RX6) (T := TX6) (N := 9) (ty := (.object "BranchMender$Tree")) (σ' := gc_sR σ 605 a v) rfl (by decide) rfl in_X6 tyX6_ok nmX6 (by decide) h hc q320 (fun _ h9 => h9) rfl (by decide +kernel) (gc_nar_o _ v).1 (gc_nar_o _ v).2 ha rfl rfl rfl rfl rfl (gc_sR_v (by decide)).1 (gc_sR_v (by decide)).2 d kk
theorem gcp_X6_90 (h : gc_K θ K M) (hc : (gx_My M).cls = "BranchMender$Merger") {r : Option Nat} {a : Nat} {v : Option Nat} (e : r = some a) (ha : gc_is σ a 6) (d : decode (gx_Mc M) pc = .ok (.putfield 90, 3)) (kk : gc_G θ K M Post (pc + 3) L st (gc_sR σ 606 a v) bc bs) : gc_G θ K M Post pc L (va_rf v :: va_rf r :: st) σ bc bs := by
  subst e
  exact gc_put (k := 6) (j := 6) (C := RX6) (T := TX6) (N := 9) (ty := (.object "BranchMender$Tree")) (σ' := gc_sR σ 606 a v) rfl (by decide) rfl in_X6 tyX6_ok nmX6 (by decide) h hc q321 (fun _ h9 => h9) rfl (by decide +kernel) (gc_nar_o _ v).1 (gc_nar_o _ v).2 ha rfl rfl rfl rfl rfl (gc_sR_v (by decide)).1 (gc_sR_v (by decide)).2 d kk
theorem gcp_X6_102 (h : gc_K θ K M) (hc : (gx_My M).cls = "BranchMender$Merger") {r : Option Nat} {a : Nat} {v : Int32} (e : r = some a) (ha : gc_is σ a 6) (hn : narrow .boolean (.int v) = .int v) (hf : fits .boolean (.int v) = true) (d : decode (gx_Mc M) pc = .ok (.putfield 102, 3)) (kk : gc_G θ K M Post (pc + 3) L st (gc_sI σ 608 a v) bc bs) : gc_G θ K M Post pc L (.int v :: va_rf r :: st) σ bc bs := by
  subst e
  exact gc_put (k := 6) (j := 8) (C := RX6) (T := TX6) (N := 9) (ty := .boolean) (σ' := gc_sI σ 608 a v) rfl (by decide) rfl in_X6 tyX6_ok nmX6 (by decide) h hc q323 (fun _ h9 => h9) rfl (by decide +kernel) hn hf ha rfl rfl rfl rfl rfl (gc_sI_v (by decide)).1 (gc_sI_v (by decide)).2 d kk
theorem gcg_X8_11 (h : gc_K θ K M) (hc : (gx_My M).cls = "BranchMender$Tree") {r : Option Nat} {a : Nat} (e : r = some a) (ha : gc_is σ a 7) (d : decode (gx_Mc M) pc = .ok (.getfield 11, 3)) (kk : gc_G θ K M Post (pc + 3) L (va_rf (gc_R σ 701 a) :: st) σ bc bs) : gc_G θ K M Post pc L (va_rf r :: st) σ bc bs := by
  subst e
  exact gc_get (k := 7) (j := 1) (C := RX8) (T := TX8) (N := 5) rfl (by decide) rfl in_X8 (by decide) h hc q710 (fun _ h9 => h9) ha d kk
theorem gcg_X8_17 (h : gc_K θ K M) (hc : (gx_My M).cls = "BranchMender$Tree") {r : Option Nat} {a : Nat} (e : r = some a) (ha : gc_is σ a 7) (d : decode (gx_Mc M) pc = .ok (.getfield 17, 3)) (kk : gc_G θ K M Post (pc + 3) L (va_rf (gc_R σ 702 a) :: st) σ bc bs) : gc_G θ K M Post pc L (va_rf r :: st) σ bc bs := by
  subst e
  exact gc_get (k := 7) (j := 2) (C := RX8) (T := TX8) (N := 5) rfl (by decide) rfl in_X8 (by decide) h hc q713 (fun _ h9 => h9) ha d kk
theorem gcg_X8_20 (h : gc_K θ K M) (hc : (gx_My M).cls = "BranchMender$Tree") {r : Option Nat} {a : Nat} (e : r = some a) (ha : gc_is σ a 7) (d : decode (gx_Mc M) pc = .ok (.getfield 20, 3)) (kk : gc_G θ K M Post (pc + 3) L (va_rf (gc_R σ 700 a) :: st) σ bc bs) : gc_G θ K M Post pc L (va_rf r :: st) σ bc bs := by
  subst e
  exact gc_get (k := 7) (j := 0) (C := RX8) (T := TX8) (N := 5) rfl (by decide) rfl in_X8 (by decide) h hc q707 (fun _ h9 => h9) ha d kk
theorem gcg_X8_28 (h : gc_K θ K M) (hc : (gx_My M).cls = "BranchMender$Tree") {r : Option Nat} {a : Nat} (e : r = some a) (ha : gc_is σ a 7) (d : decode (gx_Mc M) pc = .ok (.getfield 28, 3)) (kk : gc_G θ K M Post (pc + 3) L (.int (gc_I σ 703 a) :: st) σ bc bs) : gc_G θ K M Post pc L (va_rf r :: st) σ bc bs := by
  subst e
  exact gc_get (k := 7) (j := 3) (C := RX8) (T := TX8) (N := 5) rfl (by decide) rfl in_X8 (by decide) h hc q717 (fun _ h9 => h9) ha d kk
theorem gcg_X8_32 (h : gc_K θ K M) (hc : (gx_My M).cls = "BranchMender$Tree") {r : Option Nat} {a : Nat} (e : r = some a) (ha : gc_is σ a 7) (d : decode (gx_Mc M) pc = .ok (.getfield 32, 3)) (kk : gc_G θ K M Post (pc + 3) L (.int (gc_I σ 704 a) :: st) σ bc bs) : gc_G θ K M Post pc L (va_rf r :: st) σ bc bs := by
  subst e
  exact gc_get (k := 7) (j := 4) (C := RX8) (T := TX8) (N := 5) rfl (by decide) rfl in_X8 (by decide) h hc q722 (fun _ h9 => h9) ha d kk
theorem gcg_X8_35 (h : gc_K θ K M) (hc : (gx_My M).cls = "BranchMender$Tree") {r : Option Nat} {a : Nat} (e : r = some a) (ha : gc_isN σ a) (d : decode (gx_Mc M) pc = .ok (.getfield 35, 3)) (kk : gc_G θ K M Post (pc + 3) L (.int (gc_I σ 808 a) :: st) σ bc bs) : gc_G θ K M Post pc L (va_rf r :: st) σ bc bs := by
  subst e
  have hk : gc_k σ a = 8 ∨ gc_k σ a = 9 ∨ gc_k σ a = 10 ∨ gc_k σ a = 11 := by have := ha.2; omega
  rcases hk with hk | hk | hk | hk
  · exact gc_get (k := 8) (j := 8) (C := RX10) (T := TX10) (N := 10) rfl (by decide) rfl in_X10 (by decide) h hc q546 (fun _ h9 => h9) ⟨ha.1, hk⟩ d kk
  · exact gc_get (k := 9) (j := 8) (C := RX11) (T := TX11) (N := 10) rfl (by decide) rfl in_X11 (by decide) h hc q546 (fun _ h9 => h9) ⟨ha.1, hk⟩ d kk
  · exact gc_get (k := 10) (j := 8) (C := RX12) (T := TX12) (N := 10) rfl (by decide) rfl in_X12 (by decide) h hc q546 (fun _ h9 => h9) ⟨ha.1, hk⟩ d kk
  · exact gc_get (k := 11) (j := 8) (C := RX13) (T := TX13) (N := 10) rfl (by decide) rfl in_X13 (by decide) h hc q546 (fun _ h9 => h9) ⟨ha.1, hk⟩ d kk
theorem gcg_X8_46 (h : gc_K θ K M) (hc : (gx_My M).cls = "BranchMender$Tree") {r : Option Nat} {a : Nat} (e : r = some a) (ha : gc_isN σ a) (d : decode (gx_Mc M) pc = .ok (.getfield 46, 3)) (kk : gc_G θ K M Post (pc + 3) L (va_rf (gc_R σ 804 a) :: st) σ bc bs) : gc_G θ K M Post pc L (va_rf r :: st) σ bc bs := by
  subst e
  have hk : gc_k σ a = 8 ∨ gc_k σ a = 9 ∨ gc_k σ a = 10 ∨ gc_k σ a = 11 := by have := ha.2; omega
  rcases hk with hk | hk | hk | hk
  · exact gc_get (k := 8) (j := 4) (C := RX10) (T := TX10) (N := 10) rfl (by decide) rfl in_X10 (by decide) h hc q532 (fun _ h9 => h9) ⟨ha.1, hk⟩ d kk
  · exact gc_get (k := 9) (j := 4) (C := RX11) (T := TX11) (N := 10) rfl (by decide) rfl in_X11 (by decide) h hc q532 (fun _ h9 => h9) ⟨ha.1, hk⟩ d kk
  · exact gc_get (k := 10) (j := 4) (C := RX12) (T := TX12) (N := 10) rfl (by decide) rfl in_X12 (by decide) h hc q532 (fun _ h9 => h9) ⟨ha.1, hk⟩ d kk
  · exact gc_get (k := 11) (j := 4) (C := RX13) (T := TX13) (N := 10) rfl (by decide) rfl in_X13 (by decide) h hc q532 (fun _ h9 => h9) ⟨ha.1, hk⟩ d kk
theorem gcg_X8_61 (h : gc_K θ K M) (hc : (gx_My M).cls = "BranchMender$Tree") {r : Option Nat} {a : Nat} (e : r = some a) (ha : gc_isN σ a) (d : decode (gx_Mc M) pc = .ok (.getfield 61, 3)) (kk : gc_G θ K M Post (pc + 3) L (.int (gc_I σ 800 a) :: st) σ bc bs) : gc_G θ K M Post pc L (va_rf r :: st) σ bc bs := by
  subst e
  have hk : gc_k σ a = 8 ∨ gc_k σ a = 9 ∨ gc_k σ a = 10 ∨ gc_k σ a = 11 := by have := ha.2; omega
  rcases hk with hk | hk | hk | hk
  · exact gc_get (k := 8) (j := 0) (C := RX10) (T := TX10) (N := 10) rfl (by decide) rfl in_X10 (by decide) h hc q500 (fun _ h9 => h9) ⟨ha.1, hk⟩ d kk
  · exact gc_get (k := 9) (j := 0) (C := RX11) (T := TX11) (N := 10) rfl (by decide) rfl in_X11 (by decide) h hc q500 (fun _ h9 => h9) ⟨ha.1, hk⟩ d kk
  · exact gc_get (k := 10) (j := 0) (C := RX12) (T := TX12) (N := 10) rfl (by decide) rfl in_X12 (by decide) h hc q500 (fun _ h9 => h9) ⟨ha.1, hk⟩ d kk
  · exact gc_get (k := 11) (j := 0) (C := RX13) (T := TX13) (N := 10) rfl (by decide) rfl in_X13 (by decide) h hc q500 (fun _ h9 => h9) ⟨ha.1, hk⟩ d kk
theorem gcg_X8_74 (h : gc_K θ K M) (hc : (gx_My M).cls = "BranchMender$Tree") {r : Option Nat} {a : Nat} (e : r = some a) (ha : gc_isN σ a) (d : decode (gx_Mc M) pc = .ok (.getfield 74, 3)) (kk : gc_G θ K M Post (pc + 3) L (va_rf (gc_R σ 801 a) :: st) σ bc bs) : gc_G θ K M Post pc L (va_rf r :: st) σ bc bs := by
  subst e
  have hk : gc_k σ a = 8 ∨ gc_k σ a = 9 ∨ gc_k σ a = 10 ∨ gc_k σ a = 11 := by have := ha.2; omega
  rcases hk with hk | hk | hk | hk
  · exact gc_get (k := 8) (j := 1) (C := RX10) (T := TX10) (N := 10) rfl (by decide) rfl in_X10 (by decide) h hc q511 (fun _ h9 => h9) ⟨ha.1, hk⟩ d kk
  · exact gc_get (k := 9) (j := 1) (C := RX11) (T := TX11) (N := 10) rfl (by decide) rfl in_X11 (by decide) h hc q511 (fun _ h9 => h9) ⟨ha.1, hk⟩ d kk
  · exact gc_get (k := 10) (j := 1) (C := RX12) (T := TX12) (N := 10) rfl (by decide) rfl in_X12 (by decide) h hc q511 (fun _ h9 => h9) ⟨ha.1, hk⟩ d kk
  · exact gc_get (k := 11) (j := 1) (C := RX13) (T := TX13) (N := 10) rfl (by decide) rfl in_X13 (by decide) h hc q511 (fun _ h9 => h9) ⟨ha.1, hk⟩ d kk
theorem gcg_X8_78 (h : gc_K θ K M) (hc : (gx_My M).cls = "BranchMender$Tree") {r : Option Nat} {a : Nat} (e : r = some a) (ha : gc_isN σ a) (d : decode (gx_Mc M) pc = .ok (.getfield 78, 3)) (kk : gc_G θ K M Post (pc + 3) L (va_rf (gc_R σ 802 a) :: st) σ bc bs) : gc_G θ K M Post pc L (va_rf r :: st) σ bc bs := by
  subst e
  have hk : gc_k σ a = 8 ∨ gc_k σ a = 9 ∨ gc_k σ a = 10 ∨ gc_k σ a = 11 := by have := ha.2; omega
  rcases hk with hk | hk | hk | hk
  · exact gc_get (k := 8) (j := 2) (C := RX10) (T := TX10) (N := 10) rfl (by decide) rfl in_X10 (by decide) h hc q522 (fun _ h9 => h9) ⟨ha.1, hk⟩ d kk
  · exact gc_get (k := 9) (j := 2) (C := RX11) (T := TX11) (N := 10) rfl (by decide) rfl in_X11 (by decide) h hc q522 (fun _ h9 => h9) ⟨ha.1, hk⟩ d kk
  · exact gc_get (k := 10) (j := 2) (C := RX12) (T := TX12) (N := 10) rfl (by decide) rfl in_X12 (by decide) h hc q522 (fun _ h9 => h9) ⟨ha.1, hk⟩ d kk
  · exact gc_get (k := 11) (j := 2) (C := RX13) (T := TX13) (N := 10) rfl (by decide) rfl in_X13 (by decide) h hc q522 (fun _ h9 => h9) ⟨ha.1, hk⟩ d kk
theorem gcp_X8_11 (h : gc_K θ K M) (hc : (gx_My M).cls = "BranchMender$Tree") (hi2 : (gx_My M).name = "<init>") {r : Option Nat} {a : Nat} {v : Option Nat} (e : r = some a) (ha : gc_is σ a 7) (d : decode (gx_Mc M) pc = .ok (.putfield 11, 3)) (kk : gc_G θ K M Post (pc + 3) L st (gc_sR σ 701 a v) bc bs) : gc_G θ K M Post pc L (va_rf v :: va_rf r :: st) σ bc bs := by
  subst e
  exact gc_putF (k := 7) (j := 1) (C := RX8) (T := TX8) (N := 5) (ty := (.array (.object "BranchMender$Node"))) (σ' := gc_sR σ 701 a v) rfl (by decide) rfl in_X8 tyX8_ok nmX8 (by decide) h hc hi2 q710 (fun _ h9 => h9) rfl rfl (by decide +kernel) (gc_nar_a _ v).1 (gc_nar_a _ v).2 ha rfl rfl rfl rfl rfl (gc_sR_v (by decide)).1 (gc_sR_v (by decide)).2 d kk
theorem gcp_X8_17 (h : gc_K θ K M) (hc : (gx_My M).cls = "BranchMender$Tree") (hi2 : (gx_My M).name = "<init>") {r : Option Nat} {a : Nat} {v : Option Nat} (e : r = some a) (ha : gc_is σ a 7) (d : decode (gx_Mc M) pc = .ok (.putfield 17, 3)) (kk : gc_G θ K M Post (pc + 3) L st (gc_sR σ 702 a v) bc bs) : gc_G θ K M Post pc L (va_rf v :: va_rf r :: st) σ bc bs := by
  subst e
  exact gc_putF (k := 7) (j := 2) (C := RX8) (T := TX8) (N := 5) (ty := (.array (.object "BranchMender$Node"))) (σ' := gc_sR σ 702 a v) rfl (by decide) rfl in_X8 tyX8_ok nmX8 (by decide) h hc hi2 q713 (fun _ h9 => h9) rfl rfl (by decide +kernel) (gc_nar_a _ v).1 (gc_nar_a _ v).2 ha rfl rfl rfl rfl rfl (gc_sR_v (by decide)).1 (gc_sR_v (by decide)).2 d kk
theorem gcp_X8_20 (h : gc_K θ K M) (hc : (gx_My M).cls = "BranchMender$Tree") {r : Option Nat} {a : Nat} {v : Option Nat} (e : r = some a) (ha : gc_is σ a 7) (d : decode (gx_Mc M) pc = .ok (.putfield 20, 3)) (kk : gc_G θ K M Post (pc + 3) L st (gc_sR σ 700 a v) bc bs) : gc_G θ K M Post pc L (va_rf v :: va_rf r :: st) σ bc bs := by
  subst e
  exact gc_put (k := 7) (j := 0) (C := RX8) (T := TX8) (N := 5) (ty := (.object "BranchMender$Node")) (σ' := gc_sR σ 700 a v) rfl (by decide) rfl in_X8 tyX8_ok nmX8 (by decide) h hc q707 (fun _ h9 => h9) rfl (by decide +kernel) (gc_nar_o _ v).1 (gc_nar_o _ v).2 ha rfl rfl rfl rfl rfl (gc_sR_v (by decide)).1 (gc_sR_v (by decide)).2 d kk
theorem gcp_X8_28 (h : gc_K θ K M) (hc : (gx_My M).cls = "BranchMender$Tree") {r : Option Nat} {a : Nat} {v : Int32} (e : r = some a) (ha : gc_is σ a 7) (d : decode (gx_Mc M) pc = .ok (.putfield 28, 3)) (kk : gc_G θ K M Post (pc + 3) L st (gc_sI σ 703 a v) bc bs) : gc_G θ K M Post pc L (.int v :: va_rf r :: st) σ bc bs := by
  subst e
  exact gc_put (k := 7) (j := 3) (C := RX8) (T := TX8) (N := 5) (ty := .int) (σ' := gc_sI σ 703 a v) rfl (by decide) rfl in_X8 tyX8_ok nmX8 (by decide) h hc q717 (fun _ h9 => h9) rfl (by decide +kernel) rfl rfl ha rfl rfl rfl rfl rfl (gc_sI_v (by decide)).1 (gc_sI_v (by decide)).2 d kk
theorem gcp_X8_32 (h : gc_K θ K M) (hc : (gx_My M).cls = "BranchMender$Tree") {r : Option Nat} {a : Nat} {v : Int32} (e : r = some a) (ha : gc_is σ a 7) (d : decode (gx_Mc M) pc = .ok (.putfield 32, 3)) (kk : gc_G θ K M Post (pc + 3) L st (gc_sI σ 704 a v) bc bs) : gc_G θ K M Post pc L (.int v :: va_rf r :: st) σ bc bs := by
  subst e
  exact gc_put (k := 7) (j := 4) (C := RX8) (T := TX8) (N := 5) (ty := .int) (σ' := gc_sI σ 704 a v) rfl (by decide) rfl in_X8 tyX8_ok nmX8 (by decide) h hc q722 (fun _ h9 => h9) rfl (by decide +kernel) rfl rfl ha rfl rfl rfl rfl rfl (gc_sI_v (by decide)).1 (gc_sI_v (by decide)).2 d kk
theorem gcp_X8_35 (h : gc_K θ K M) (hc : (gx_My M).cls = "BranchMender$Tree") {r : Option Nat} {a : Nat} {v : Int32} (e : r = some a) (ha : gc_isN σ a) (d : decode (gx_Mc M) pc = .ok (.putfield 35, 3)) (kk : gc_G θ K M Post (pc + 3) L st (gc_sI σ 808 a v) bc bs) : gc_G θ K M Post pc L (.int v :: va_rf r :: st) σ bc bs := by
  subst e
  have hk : gc_k σ a = 8 ∨ gc_k σ a = 9 ∨ gc_k σ a = 10 ∨ gc_k σ a = 11 := by have := ha.2; omega
  rcases hk with hk | hk | hk | hk
  · exact gc_put (k := 8) (j := 8) (C := RX10) (T := TX10) (N := 10) (ty := .int) (σ' := gc_sI σ 808 a v) rfl (by decide) rfl in_X10 tyX10_ok nmX10 (by decide) h hc q546 (fun _ h9 => h9) rfl (by decide +kernel) rfl rfl ⟨ha.1, hk⟩ rfl rfl rfl rfl rfl (gc_sI_v (by decide)).1 (gc_sI_v (by decide)).2 d kk
  · exact gc_put (k := 9) (j := 8) (C := RX11) (T := TX11) (N := 10) (ty := .int) (σ' := gc_sI σ 808 a v) rfl (by decide) rfl in_X11 tyX11_ok nmX11 (by decide) h hc q546 (fun _ h9 => h9) rfl (by decide +kernel) rfl rfl ⟨ha.1, hk⟩ rfl rfl rfl rfl rfl (gc_sI_v (by decide)).1 (gc_sI_v (by decide)).2 d kk
  · exact gc_put (k := 10) (j := 8) (C := RX12) (T := TX12) (N := 10) (ty := .int) (σ' := gc_sI σ 808 a v) rfl (by decide) rfl in_X12 tyX12_ok nmX12 (by decide) h hc q546 (fun _ h9 => h9) rfl (by decide +kernel) rfl rfl ⟨ha.1, hk⟩ rfl rfl rfl rfl rfl (gc_sI_v (by decide)).1 (gc_sI_v (by decide)).2 d kk
  · exact gc_put (k := 11) (j := 8) (C := RX13) (T := TX13) (N := 10) (ty := .int) (σ' := gc_sI σ 808 a v) rfl (by decide) rfl in_X13 tyX13_ok nmX13 (by decide) h hc q546 (fun _ h9 => h9) rfl (by decide +kernel) rfl rfl ⟨ha.1, hk⟩ rfl rfl rfl rfl rfl (gc_sI_v (by decide)).1 (gc_sI_v (by decide)).2 d kk
theorem gcp_X8_41 (h : gc_K θ K M) (hc : (gx_My M).cls = "BranchMender$Tree") {r : Option Nat} {a : Nat} {v : Int32} (e : r = some a) (ha : gc_isN σ a) (d : decode (gx_Mc M) pc = .ok (.putfield 41, 3)) (kk : gc_G θ K M Post (pc + 3) L st (gc_sI σ 805 a v) bc bs) : gc_G θ K M Post pc L (.int v :: va_rf r :: st) σ bc bs := by
  subst e
  have hk : gc_k σ a = 8 ∨ gc_k σ a = 9 ∨ gc_k σ a = 10 ∨ gc_k σ a = 11 := by have := ha.2; omega
  rcases hk with hk | hk | hk | hk
  · exact gc_put (k := 8) (j := 5) (C := RX10) (T := TX10) (N := 10) (ty := .int) (σ' := gc_sI σ 805 a v) rfl (by decide) rfl in_X10 tyX10_ok nmX10 (by decide) h hc q538 (fun _ h9 => h9) rfl (by decide +kernel) rfl rfl ⟨ha.1, hk⟩ rfl rfl rfl rfl rfl (gc_sI_v (by decide)).1 (gc_sI_v (by decide)).2 d kk
  · exact gc_put (k := 9) (j := 5) (C := RX11) (T := TX11) (N := 10) (ty := .int) (σ' := gc_sI σ 805 a v) rfl (by decide) rfl in_X11 tyX11_ok nmX11 (by decide) h hc q538 (fun _ h9 => h9) rfl (by decide +kernel) rfl rfl ⟨ha.1, hk⟩ rfl rfl rfl rfl rfl (gc_sI_v (by decide)).1 (gc_sI_v (by decide)).2 d kk
  · exact gc_put (k := 10) (j := 5) (C := RX12) (T := TX12) (N := 10) (ty := .int) (σ' := gc_sI σ 805 a v) rfl (by decide) rfl in_X12 tyX12_ok nmX12 (by decide) h hc q538 (fun _ h9 => h9) rfl (by decide +kernel) rfl rfl ⟨ha.1, hk⟩ rfl rfl rfl rfl rfl (gc_sI_v (by decide)).1 (gc_sI_v (by decide)).2 d kk
  · exact gc_put (k := 11) (j := 5) (C := RX13) (T := TX13) (N := 10) (ty := .int) (σ' := gc_sI σ 805 a v) rfl (by decide) rfl in_X13 tyX13_ok nmX13 (by decide) h hc q538 (fun _ h9 => h9) rfl (by decide +kernel) rfl rfl ⟨ha.1, hk⟩ rfl rfl rfl rfl rfl (gc_sI_v (by decide)).1 (gc_sI_v (by decide)).2 d kk
theorem gcp_X8_43 (h : gc_K θ K M) (hc : (gx_My M).cls = "BranchMender$Tree") {r : Option Nat} {a : Nat} {v : Int32} (e : r = some a) (ha : gc_isN σ a) (d : decode (gx_Mc M) pc = .ok (.putfield 43, 3)) (kk : gc_G θ K M Post (pc + 3) L st (gc_sI σ 807 a v) bc bs) : gc_G θ K M Post pc L (.int v :: va_rf r :: st) σ bc bs := by
  subst e
  have hk : gc_k σ a = 8 ∨ gc_k σ a = 9 ∨ gc_k σ a = 10 ∨ gc_k σ a = 11 := by have := ha.2; omega
  rcases hk with hk | hk | hk | hk
  · exact gc_put (k := 8) (j := 7) (C := RX10) (T := TX10) (N := 10) (ty := .int) (σ' := gc_sI σ 807 a v) rfl (by decide) rfl in_X10 tyX10_ok nmX10 (by decide) h hc q543 (fun _ h9 => h9) rfl (by decide +kernel) rfl rfl ⟨ha.1, hk⟩ rfl rfl rfl rfl rfl (gc_sI_v (by decide)).1 (gc_sI_v (by decide)).2 d kk
  · exact gc_put (k := 9) (j := 7) (C := RX11) (T := TX11) (N := 10) (ty := .int) (σ' := gc_sI σ 807 a v) rfl (by decide) rfl in_X11 tyX11_ok nmX11 (by decide) h hc q543 (fun _ h9 => h9) rfl (by decide +kernel) rfl rfl ⟨ha.1, hk⟩ rfl rfl rfl rfl rfl (gc_sI_v (by decide)).1 (gc_sI_v (by decide)).2 d kk
  · exact gc_put (k := 10) (j := 7) (C := RX12) (T := TX12) (N := 10) (ty := .int) (σ' := gc_sI σ 807 a v) rfl (by decide) rfl in_X12 tyX12_ok nmX12 (by decide) h hc q543 (fun _ h9 => h9) rfl (by decide +kernel) rfl rfl ⟨ha.1, hk⟩ rfl rfl rfl rfl rfl (gc_sI_v (by decide)).1 (gc_sI_v (by decide)).2 d kk
  · exact gc_put (k := 11) (j := 7) (C := RX13) (T := TX13) (N := 10) (ty := .int) (σ' := gc_sI σ 807 a v) rfl (by decide) rfl in_X13 tyX13_ok nmX13 (by decide) h hc q543 (fun _ h9 => h9) rfl (by decide +kernel) rfl rfl ⟨ha.1, hk⟩ rfl rfl rfl rfl rfl (gc_sI_v (by decide)).1 (gc_sI_v (by decide)).2 d kk
theorem gcp_X8_59 (h : gc_K θ K M) (hc : (gx_My M).cls = "BranchMender$Tree") {r : Option Nat} {a : Nat} {v : Int32} (e : r = some a) (ha : gc_isN σ a) (d : decode (gx_Mc M) pc = .ok (.putfield 59, 3)) (kk : gc_G θ K M Post (pc + 3) L st (gc_sI σ 806 a v) bc bs) : gc_G θ K M Post pc L (.int v :: va_rf r :: st) σ bc bs := by
  subst e
  have hk : gc_k σ a = 8 ∨ gc_k σ a = 9 ∨ gc_k σ a = 10 ∨ gc_k σ a = 11 := by have := ha.2; omega
  rcases hk with hk | hk | hk | hk
  · exact gc_put (k := 8) (j := 6) (C := RX10) (T := TX10) (N := 10) (ty := .int) (σ' := gc_sI σ 806 a v) rfl (by decide) rfl in_X10 tyX10_ok nmX10 (by decide) h hc q541 (fun _ h9 => h9) rfl (by decide +kernel) rfl rfl ⟨ha.1, hk⟩ rfl rfl rfl rfl rfl (gc_sI_v (by decide)).1 (gc_sI_v (by decide)).2 d kk
  · exact gc_put (k := 9) (j := 6) (C := RX11) (T := TX11) (N := 10) (ty := .int) (σ' := gc_sI σ 806 a v) rfl (by decide) rfl in_X11 tyX11_ok nmX11 (by decide) h hc q541 (fun _ h9 => h9) rfl (by decide +kernel) rfl rfl ⟨ha.1, hk⟩ rfl rfl rfl rfl rfl (gc_sI_v (by decide)).1 (gc_sI_v (by decide)).2 d kk
  · exact gc_put (k := 10) (j := 6) (C := RX12) (T := TX12) (N := 10) (ty := .int) (σ' := gc_sI σ 806 a v) rfl (by decide) rfl in_X12 tyX12_ok nmX12 (by decide) h hc q541 (fun _ h9 => h9) rfl (by decide +kernel) rfl rfl ⟨ha.1, hk⟩ rfl rfl rfl rfl rfl (gc_sI_v (by decide)).1 (gc_sI_v (by decide)).2 d kk
  · exact gc_put (k := 11) (j := 6) (C := RX13) (T := TX13) (N := 10) (ty := .int) (σ' := gc_sI σ 806 a v) rfl (by decide) rfl in_X13 tyX13_ok nmX13 (by decide) h hc q541 (fun _ h9 => h9) rfl (by decide +kernel) rfl rfl ⟨ha.1, hk⟩ rfl rfl rfl rfl rfl (gc_sI_v (by decide)).1 (gc_sI_v (by decide)).2 d kk
theorem gcg_X9_10 (h : gc_K θ K M) (hc : (gx_My M).cls = "BranchMender$Node") {r : Option Nat} {a : Nat} (e : r = some a) (ha : gc_isN σ a) (d : decode (gx_Mc M) pc = .ok (.getfield 10, 3)) (kk : gc_G θ K M Post (pc + 3) L (va_rf (gc_R σ 804 a) :: st) σ bc bs) : gc_G θ K M Post pc L (va_rf r :: st) σ bc bs := by
  subst e
  have hk : gc_k σ a = 8 ∨ gc_k σ a = 9 ∨ gc_k σ a = 10 ∨ gc_k σ a = 11 := by have := ha.2; omega
  rcases hk with hk | hk | hk | hk
  · exact gc_get (k := 8) (j := 4) (C := RX10) (T := TX10) (N := 10) rfl (by decide) rfl in_X10 (by decide) h hc q527 (fun _ h9 => h9) ⟨ha.1, hk⟩ d kk
  · exact gc_get (k := 9) (j := 4) (C := RX11) (T := TX11) (N := 10) rfl (by decide) rfl in_X11 (by decide) h hc q527 (fun _ h9 => h9) ⟨ha.1, hk⟩ d kk
  · exact gc_get (k := 10) (j := 4) (C := RX12) (T := TX12) (N := 10) rfl (by decide) rfl in_X12 (by decide) h hc q527 (fun _ h9 => h9) ⟨ha.1, hk⟩ d kk
  · exact gc_get (k := 11) (j := 4) (C := RX13) (T := TX13) (N := 10) rfl (by decide) rfl in_X13 (by decide) h hc q527 (fun _ h9 => h9) ⟨ha.1, hk⟩ d kk
theorem gcp_X9_10 (h : gc_K θ K M) (hc : (gx_My M).cls = "BranchMender$Node") (hi2 : (gx_My M).name = "<init>") {r : Option Nat} {a : Nat} {v : Option Nat} (e : r = some a) (ha : gc_isN σ a) (d : decode (gx_Mc M) pc = .ok (.putfield 10, 3)) (kk : gc_G θ K M Post (pc + 3) L st (gc_sR σ 804 a v) bc bs) : gc_G θ K M Post pc L (va_rf v :: va_rf r :: st) σ bc bs := by
  subst e
  have hk : gc_k σ a = 8 ∨ gc_k σ a = 9 ∨ gc_k σ a = 10 ∨ gc_k σ a = 11 := by have := ha.2; omega
  rcases hk with hk | hk | hk | hk
  · exact gc_putF (k := 8) (j := 4) (C := RX10) (T := TX10) (N := 10) (ty := (.object "java/util/ArrayList")) (σ' := gc_sR σ 804 a v) rfl (by decide) rfl in_X10 tyX10_ok nmX10 (by decide) h hc hi2 q527 (fun _ h9 => h9) rfl rfl (by decide +kernel) (gc_nar_o _ v).1 (gc_nar_o _ v).2 ⟨ha.1, hk⟩ rfl rfl rfl rfl rfl (gc_sR_v (by decide)).1 (gc_sR_v (by decide)).2 d kk
  · exact gc_putF (k := 9) (j := 4) (C := RX11) (T := TX11) (N := 10) (ty := (.object "java/util/ArrayList")) (σ' := gc_sR σ 804 a v) rfl (by decide) rfl in_X11 tyX11_ok nmX11 (by decide) h hc hi2 q527 (fun _ h9 => h9) rfl rfl (by decide +kernel) (gc_nar_o _ v).1 (gc_nar_o _ v).2 ⟨ha.1, hk⟩ rfl rfl rfl rfl rfl (gc_sR_v (by decide)).1 (gc_sR_v (by decide)).2 d kk
  · exact gc_putF (k := 10) (j := 4) (C := RX12) (T := TX12) (N := 10) (ty := (.object "java/util/ArrayList")) (σ' := gc_sR σ 804 a v) rfl (by decide) rfl in_X12 tyX12_ok nmX12 (by decide) h hc hi2 q527 (fun _ h9 => h9) rfl rfl (by decide +kernel) (gc_nar_o _ v).1 (gc_nar_o _ v).2 ⟨ha.1, hk⟩ rfl rfl rfl rfl rfl (gc_sR_v (by decide)).1 (gc_sR_v (by decide)).2 d kk
  · exact gc_putF (k := 11) (j := 4) (C := RX13) (T := TX13) (N := 10) (ty := (.object "java/util/ArrayList")) (σ' := gc_sR σ 804 a v) rfl (by decide) rfl in_X13 tyX13_ok nmX13 (by decide) h hc hi2 q527 (fun _ h9 => h9) rfl rfl (by decide +kernel) (gc_nar_o _ v).1 (gc_nar_o _ v).2 ⟨ha.1, hk⟩ rfl rfl rfl rfl rfl (gc_sR_v (by decide)).1 (gc_sR_v (by decide)).2 d kk
theorem gcp_X9_16 (h : gc_K θ K M) (hc : (gx_My M).cls = "BranchMender$Node") {r : Option Nat} {a : Nat} {v : Int32} (e : r = some a) (ha : gc_isN σ a) (d : decode (gx_Mc M) pc = .ok (.putfield 16, 3)) (kk : gc_G θ K M Post (pc + 3) L st (gc_sI σ 800 a v) bc bs) : gc_G θ K M Post pc L (.int v :: va_rf r :: st) σ bc bs := by
  subst e
  have hk : gc_k σ a = 8 ∨ gc_k σ a = 9 ∨ gc_k σ a = 10 ∨ gc_k σ a = 11 := by have := ha.2; omega
  rcases hk with hk | hk | hk | hk
  · exact gc_put (k := 8) (j := 0) (C := RX10) (T := TX10) (N := 10) (ty := .int) (σ' := gc_sI σ 800 a v) rfl (by decide) rfl in_X10 tyX10_ok nmX10 (by decide) h hc q499 (fun _ h9 => h9) rfl (by decide +kernel) rfl rfl ⟨ha.1, hk⟩ rfl rfl rfl rfl rfl (gc_sI_v (by decide)).1 (gc_sI_v (by decide)).2 d kk
  · exact gc_put (k := 9) (j := 0) (C := RX11) (T := TX11) (N := 10) (ty := .int) (σ' := gc_sI σ 800 a v) rfl (by decide) rfl in_X11 tyX11_ok nmX11 (by decide) h hc q499 (fun _ h9 => h9) rfl (by decide +kernel) rfl rfl ⟨ha.1, hk⟩ rfl rfl rfl rfl rfl (gc_sI_v (by decide)).1 (gc_sI_v (by decide)).2 d kk
  · exact gc_put (k := 10) (j := 0) (C := RX12) (T := TX12) (N := 10) (ty := .int) (σ' := gc_sI σ 800 a v) rfl (by decide) rfl in_X12 tyX12_ok nmX12 (by decide) h hc q499 (fun _ h9 => h9) rfl (by decide +kernel) rfl rfl ⟨ha.1, hk⟩ rfl rfl rfl rfl rfl (gc_sI_v (by decide)).1 (gc_sI_v (by decide)).2 d kk
  · exact gc_put (k := 11) (j := 0) (C := RX13) (T := TX13) (N := 10) (ty := .int) (σ' := gc_sI σ 800 a v) rfl (by decide) rfl in_X13 tyX13_ok nmX13 (by decide) h hc q499 (fun _ h9 => h9) rfl (by decide +kernel) rfl rfl ⟨ha.1, hk⟩ rfl rfl rfl rfl rfl (gc_sI_v (by decide)).1 (gc_sI_v (by decide)).2 d kk
theorem gcp_X9_20 (h : gc_K θ K M) (hc : (gx_My M).cls = "BranchMender$Node") {r : Option Nat} {a : Nat} {v : Option Nat} (e : r = some a) (ha : gc_isN σ a) (d : decode (gx_Mc M) pc = .ok (.putfield 20, 3)) (kk : gc_G θ K M Post (pc + 3) L st (gc_sR σ 801 a v) bc bs) : gc_G θ K M Post pc L (va_rf v :: va_rf r :: st) σ bc bs := by
  subst e
  have hk : gc_k σ a = 8 ∨ gc_k σ a = 9 ∨ gc_k σ a = 10 ∨ gc_k σ a = 11 := by have := ha.2; omega
  rcases hk with hk | hk | hk | hk
  · exact gc_put (k := 8) (j := 1) (C := RX10) (T := TX10) (N := 10) (ty := (.array .byte)) (σ' := gc_sR σ 801 a v) rfl (by decide) rfl in_X10 tyX10_ok nmX10 (by decide) h hc q503 (fun _ h9 => h9) rfl (by decide +kernel) (gc_nar_a _ v).1 (gc_nar_a _ v).2 ⟨ha.1, hk⟩ rfl rfl rfl rfl rfl (gc_sR_v (by decide)).1 (gc_sR_v (by decide)).2 d kk
  · exact gc_put (k := 9) (j := 1) (C := RX11) (T := TX11) (N := 10) (ty := (.array .byte)) (σ' := gc_sR σ 801 a v) rfl (by decide) rfl in_X11 tyX11_ok nmX11 (by decide) h hc q503 (fun _ h9 => h9) rfl (by decide +kernel) (gc_nar_a _ v).1 (gc_nar_a _ v).2 ⟨ha.1, hk⟩ rfl rfl rfl rfl rfl (gc_sR_v (by decide)).1 (gc_sR_v (by decide)).2 d kk
  · exact gc_put (k := 10) (j := 1) (C := RX12) (T := TX12) (N := 10) (ty := (.array .byte)) (σ' := gc_sR σ 801 a v) rfl (by decide) rfl in_X12 tyX12_ok nmX12 (by decide) h hc q503 (fun _ h9 => h9) rfl (by decide +kernel) (gc_nar_a _ v).1 (gc_nar_a _ v).2 ⟨ha.1, hk⟩ rfl rfl rfl rfl rfl (gc_sR_v (by decide)).1 (gc_sR_v (by decide)).2 d kk
  · exact gc_put (k := 11) (j := 1) (C := RX13) (T := TX13) (N := 10) (ty := (.array .byte)) (σ' := gc_sR σ 801 a v) rfl (by decide) rfl in_X13 tyX13_ok nmX13 (by decide) h hc q503 (fun _ h9 => h9) rfl (by decide +kernel) (gc_nar_a _ v).1 (gc_nar_a _ v).2 ⟨ha.1, hk⟩ rfl rfl rfl rfl rfl (gc_sR_v (by decide)).1 (gc_sR_v (by decide)).2 d kk
theorem gcp_X9_24 (h : gc_K θ K M) (hc : (gx_My M).cls = "BranchMender$Node") {r : Option Nat} {a : Nat} {v : Option Nat} (e : r = some a) (ha : gc_isN σ a) (d : decode (gx_Mc M) pc = .ok (.putfield 24, 3)) (kk : gc_G θ K M Post (pc + 3) L st (gc_sR σ 802 a v) bc bs) : gc_G θ K M Post pc L (va_rf v :: va_rf r :: st) σ bc bs := by
  subst e
  have hk : gc_k σ a = 8 ∨ gc_k σ a = 9 ∨ gc_k σ a = 10 ∨ gc_k σ a = 11 := by have := ha.2; omega
  rcases hk with hk | hk | hk | hk
  · exact gc_put (k := 8) (j := 2) (C := RX10) (T := TX10) (N := 10) (ty := (.array .byte)) (σ' := gc_sR σ 802 a v) rfl (by decide) rfl in_X10 tyX10_ok nmX10 (by decide) h hc q515 (fun _ h9 => h9) rfl (by decide +kernel) (gc_nar_a _ v).1 (gc_nar_a _ v).2 ⟨ha.1, hk⟩ rfl rfl rfl rfl rfl (gc_sR_v (by decide)).1 (gc_sR_v (by decide)).2 d kk
  · exact gc_put (k := 9) (j := 2) (C := RX11) (T := TX11) (N := 10) (ty := (.array .byte)) (σ' := gc_sR σ 802 a v) rfl (by decide) rfl in_X11 tyX11_ok nmX11 (by decide) h hc q515 (fun _ h9 => h9) rfl (by decide +kernel) (gc_nar_a _ v).1 (gc_nar_a _ v).2 ⟨ha.1, hk⟩ rfl rfl rfl rfl rfl (gc_sR_v (by decide)).1 (gc_sR_v (by decide)).2 d kk
  · exact gc_put (k := 10) (j := 2) (C := RX12) (T := TX12) (N := 10) (ty := (.array .byte)) (σ' := gc_sR σ 802 a v) rfl (by decide) rfl in_X12 tyX12_ok nmX12 (by decide) h hc q515 (fun _ h9 => h9) rfl (by decide +kernel) (gc_nar_a _ v).1 (gc_nar_a _ v).2 ⟨ha.1, hk⟩ rfl rfl rfl rfl rfl (gc_sR_v (by decide)).1 (gc_sR_v (by decide)).2 d kk
  · exact gc_put (k := 11) (j := 2) (C := RX13) (T := TX13) (N := 10) (ty := (.array .byte)) (σ' := gc_sR σ 802 a v) rfl (by decide) rfl in_X13 tyX13_ok nmX13 (by decide) h hc q515 (fun _ h9 => h9) rfl (by decide +kernel) (gc_nar_a _ v).1 (gc_nar_a _ v).2 ⟨ha.1, hk⟩ rfl rfl rfl rfl rfl (gc_sR_v (by decide)).1 (gc_sR_v (by decide)).2 d kk
theorem gcp_X9_35 (h : gc_K θ K M) (hc : (gx_My M).cls = "BranchMender$Node") {r : Option Nat} {a : Nat} {v : Option Nat} (e : r = some a) (ha : gc_isN σ a) (d : decode (gx_Mc M) pc = .ok (.putfield 35, 3)) (kk : gc_G θ K M Post (pc + 3) L st (gc_sR σ 803 a v) bc bs) : gc_G θ K M Post pc L (va_rf v :: va_rf r :: st) σ bc bs := by
  subst e
  have hk : gc_k σ a = 8 ∨ gc_k σ a = 9 ∨ gc_k σ a = 10 ∨ gc_k σ a = 11 := by have := ha.2; omega
  rcases hk with hk | hk | hk | hk
  · exact gc_put (k := 8) (j := 3) (C := RX10) (T := TX10) (N := 10) (ty := (.object "BranchMender$Node")) (σ' := gc_sR σ 803 a v) rfl (by decide) rfl in_X10 tyX10_ok nmX10 (by decide) h hc q525 (fun _ h9 => h9) rfl (by decide +kernel) (gc_nar_o _ v).1 (gc_nar_o _ v).2 ⟨ha.1, hk⟩ rfl rfl rfl rfl rfl (gc_sR_v (by decide)).1 (gc_sR_v (by decide)).2 d kk
  · exact gc_put (k := 9) (j := 3) (C := RX11) (T := TX11) (N := 10) (ty := (.object "BranchMender$Node")) (σ' := gc_sR σ 803 a v) rfl (by decide) rfl in_X11 tyX11_ok nmX11 (by decide) h hc q525 (fun _ h9 => h9) rfl (by decide +kernel) (gc_nar_o _ v).1 (gc_nar_o _ v).2 ⟨ha.1, hk⟩ rfl rfl rfl rfl rfl (gc_sR_v (by decide)).1 (gc_sR_v (by decide)).2 d kk
  · exact gc_put (k := 10) (j := 3) (C := RX12) (T := TX12) (N := 10) (ty := (.object "BranchMender$Node")) (σ' := gc_sR σ 803 a v) rfl (by decide) rfl in_X12 tyX12_ok nmX12 (by decide) h hc q525 (fun _ h9 => h9) rfl (by decide +kernel) (gc_nar_o _ v).1 (gc_nar_o _ v).2 ⟨ha.1, hk⟩ rfl rfl rfl rfl rfl (gc_sR_v (by decide)).1 (gc_sR_v (by decide)).2 d kk
  · exact gc_put (k := 11) (j := 3) (C := RX13) (T := TX13) (N := 10) (ty := (.object "BranchMender$Node")) (σ' := gc_sR σ 803 a v) rfl (by decide) rfl in_X13 tyX13_ok nmX13 (by decide) h hc q525 (fun _ h9 => h9) rfl (by decide +kernel) (gc_nar_o _ v).1 (gc_nar_o _ v).2 ⟨ha.1, hk⟩ rfl rfl rfl rfl rfl (gc_sR_v (by decide)).1 (gc_sR_v (by decide)).2 d kk
end GCF
