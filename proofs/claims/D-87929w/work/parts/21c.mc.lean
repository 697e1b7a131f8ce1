/-! keyed nodes with two children of one label; the tape -/
def tr_tw1 (t : tr_) (i : Nat) : Prop := ∃ j k, j < k ∧ k < (dl_cl (tr_d t) (tr_n t) i).length ∧ tr_l t (dl_at (tr_d t) (tr_n t) i k) = tr_l t (dl_at (tr_d t) (tr_n t) i j)
def tr_tw (t : tr_) : Prop := ∃ i, i < tr_n t ∧ tr_k t i = 2 ∧ tr_tw1 t i
theorem dl_at_lt2 {d : Nat → Nat} {n i : Nat} (h : dl_ok d n) (hi : i < n) {j : Nat} : ∀ k, j < k → k ≤ (dl_cl d n i).length → dl_at d n i j < dl_at d n i k := by
  intro k
  induction k with
  | zero => intro h1; omega
  | succ k ih =>
    intro h1 h2
    have := dl_at_mono h hi (k := k) (by omega)
    by_cases q : j = k
    · rw [q]; exact this
    · have := ih (by omega) (by omega); omega
theorem sg_l.lt {c : Nat} (h : sg_l c) : c < 256 := by unfold sg_l at h; omega
theorem sg_s.lt {c : Nat} (h : sg_s c) : c < 256 := by unfold sg_s sg_l at h; omega
section MC
variable {θ : gm_T} {P : Int32 → gm_X → Prop} {V : gm_X → Prop} {X : gm_X}
theorem km_like3 {x1 x2 x3 x4 x5 : Int32} (p i q k : Nat) {r s : rw_} (ha : ma_mr X p i r) (hb : ma_mr X q k s) (oa : rw_ok r) (ob : rw_ok s) (k1 : rw_l r = rw_l s → P 1 X) (k0 : rw_l r ≠ rw_l s → P 0 X)
    (hp : p ≤ 10 := by omega) (hi : i < 30 := by omega) (hq : q ≤ 10 := by omega) (hk : k < 30 := by omega) (h1 : x1 = nI p := by rfl) (h2 : x2 = nI i := by rfl) (h3 : x3 = nI q := by rfl) (h4 : x4 = nI k := by rfl) (h5 : x5 = nI 3 := by rfl) :
    gx_C (gm_O θ) mX7_isLike [.ref (gm_am θ), .int x1, .int x2, .int x3, .int x4, .int x5] X (gm_Pi P) :=
  km_isLike p i q k 3 ha.2.2.2.1 hb.2.2.2.1 (by have := oa.2.2.2.1; omega) (by have := ob.2.2.2.1; omega) (fun c hc => (oa.2.2.2.2.1 c hc).lt) (fun c hc => (ob.2.2.2.2.1 c hc).lt) k1 k0 hp hi hq hk h1 h2 h3 h4 h5
theorem km_like10 {x1 x2 x3 x4 x5 : Int32} (p i q k : Nat) {r s : rw_} (ha : ma_mr X p i r) (hb : ma_mr X q k s) (oa : rw_ok r) (ob : rw_ok s) (k1 : rw_t r = rw_t s → P 1 X) (k0 : rw_t r ≠ rw_t s → P 0 X)
    (hp : p ≤ 10 := by omega) (hi : i < 30 := by omega) (hq : q ≤ 10 := by omega) (hk : k < 30 := by omega) (h1 : x1 = nI p := by rfl) (h2 : x2 = nI i := by rfl) (h3 : x3 = nI q := by rfl) (h4 : x4 = nI k := by rfl) (h5 : x5 = nI 10 := by rfl) :
    gx_C (gm_O θ) mX7_isLike [.ref (gm_am θ), .int x1, .int x2, .int x3, .int x4, .int x5] X (gm_Pi P) :=
  km_isLike p i q k 10 ha.2.2.2.2 hb.2.2.2.2 (by have := oa.2.2.2.2.2.1; omega) (by have := ob.2.2.2.2.2.1; omega) (fun c hc => (oa.2.2.2.2.2.2 c hc).lt) (fun c hc => (ob.2.2.2.2.2.2 c hc).lt) k1 k0 hp hi hq hk h1 h2 h3 h4 h5
theorem km_hasTwice {x1 : Int32} (p : Nat) {t : tr_} (hm : ma_mp X p t) (ho : dl_ok (tr_d t) (tr_n t)) (k1 : tr_tw t → P 1 X) (k0 : ¬ tr_tw t → P 0 X) (h1 : x1 = nI p := by rfl) : gx_C (gm_O θ) mX7_hasTwice [.ref (gm_am θ), .int x1] X (gm_Pi P) := by
  subst h1
  have hmd := hm.md
  obtain ⟨m0, m1, m2, m3⟩ := hm
  refine em_hasTwice (fun K h => bm_hasTwice_0 h ?_)
  have key : ∀ m i, i + m = tr_n t → (∀ j, j < i → tr_k t j = 2 → ¬ tr_tw1 t j) → gm_G θ K mX7_hasTwice (gm_Pi P) 2 [(0, .ref (gm_am θ)), (1, .int (nI p)), (2, .int (nI i))] [] X := by
    intro m
    induction m with
    | zero =>
      intro i hi hu
      refine bm_hasTwice_2 h ⟨vp_in_nI (by omega) (by decide), ?_⟩
      rw [nI_clamp (by omega), m1]
      exact pk_le (tr_n t) i (fun _ => k0 (fun ⟨j, j1, j2, j3⟩ => hu j (by omega) j2 j3)) (fun c => by omega)
    | succ m ih =>
      intro i hi hu
      have hin : i < tr_n t := by omega
      have nexts : (tr_k t i = 2 → ¬ tr_tw1 t i) → gm_G θ K mX7_hasTwice (gm_Pi P) 88 [(0, .ref (gm_am θ)), (1, .int (nI p)), (2, .int (nI i))] [] X := fun z => by
        refine bm_hasTwice_88 h ?_
        rw [nI_1]
        exact ih (i + 1) (by omega) (fun j hj => by
          by_cases y : j = i
          · rw [y]; exact z
          · exact hu j (by omega))
      refine bm_hasTwice_2 h ⟨vp_in_nI (by omega) (by decide), ?_⟩
      rw [nI_clamp (by omega), m1]
      refine pk_le (tr_n t) i (fun c => by omega) (fun c => km_of p i 1 ?_)
      rw [(m3 i hin).1.2.1]
      have hk3 : tr_k t i ≤ 3 := (m3 i hin).2.2.1
      refine pk_eq (tr_k t i) 2 (fun e => ?_) (fun e => nexts (fun z => absurd z e))
      have hl := dl_len_lt ho hin
      have hen := (dl_en_spec (d := tr_d t) hin).2.1
      have key30 : ∀ m ka, ka + m = (dl_cl (tr_d t) (tr_n t) i).length → (∀ j k, j < k → k < ka → tr_l t (dl_at (tr_d t) (tr_n t) i k) ≠ tr_l t (dl_at (tr_d t) (tr_n t) i j)) →
          gm_G θ K mX7_hasTwice (gm_Pi P) 30 [(0, .ref (gm_am θ)), (1, .int (nI p)), (2, .int (nI i)), (3, .int (nI (dl_at (tr_d t) (tr_n t) i ka)))] [] X := by
        intro m
        induction m with
        | zero =>
          intro ka hka hu2
          refine bm_hasTwice_30 h (km_end p i hmd hin ?_)
          rw [dl_at_len (k := ka) (by omega)]
          refine pl_le (fun _ => nexts (fun _ => ?_)) (fun c => by omega)
          rintro ⟨j, k, j1, j2, j3⟩
          exact hu2 j k j1 (by omega) j3
        | succ m ih2 =>
          intro ka hka hu2
          have hka2 : ka < (dl_cl (tr_d t) (tr_n t) i).length := by omega
          have hin2 := dl_at_in ho hin hka2
          refine bm_hasTwice_30 h (km_end p i hmd hin ?_)
          refine pl_le (fun c => by omega) (fun _ => ?_)
          have key45 : ∀ m kb, kb + m = ka → (∀ j, j < kb → tr_l t (dl_at (tr_d t) (tr_n t) i ka) ≠ tr_l t (dl_at (tr_d t) (tr_n t) i j)) →
              gm_G θ K mX7_hasTwice (gm_Pi P) 45 [(0, .ref (gm_am θ)), (1, .int (nI p)), (2, .int (nI i)), (3, .int (nI (dl_at (tr_d t) (tr_n t) i ka))), (4, .int (nI (dl_at (tr_d t) (tr_n t) i kb)))] [] X := by
            intro m
            induction m with
            | zero =>
              intro kb hkb hu3
              have : kb = ka := by omega
              subst this
              refine bm_hasTwice_45 h (pl_le (fun _ => km_end p (dl_at (tr_d t) (tr_n t) i kb) hmd (by omega) ?_) (fun c => by omega))
              rw [← dl_at_s ho hin hka2]
              refine ih2 (kb + 1) (by omega) (fun j k j1 j2 => ?_)
              by_cases y : k = kb
              · rw [y]; exact hu3 j (by omega)
              · exact hu2 j k j1 (by omega)
            | succ m ih3 =>
              intro kb hkb hu3
              have hlt := dl_at_lt2 ho hin (j := kb) ka (by omega) (by omega)
              have hin3 := dl_at_in ho hin (k := kb) (by omega)
              refine bm_hasTwice_45 h (pl_le (fun c => by omega) (fun _ => ?_))
              refine km_like3 p (dl_at (tr_d t) (tr_n t) i ka) p (dl_at (tr_d t) (tr_n t) i kb) (m3 _ (by omega)).1 (m3 _ (by omega)).1 (m3 _ (by omega)).2 (m3 _ (by omega)).2 (fun e2 => ⟨fun q => absurd q (by decide), fun _ => k1 ⟨i, hin, e, kb, ka, by omega, hka2, e2⟩⟩) (fun e2 => ⟨fun _ => ?_, fun q => absurd rfl q⟩)
              refine km_end p (dl_at (tr_d t) (tr_n t) i kb) hmd (by omega) ?_
              rw [← dl_at_s ho hin (by omega)]
              refine ih3 (kb + 1) (by omega) (fun j hj => ?_)
              by_cases y : j = kb
              · rw [y]; exact e2
              · exact hu3 j (by omega)
          have := key45 ka 0 (by omega) (fun j hj => by omega)
          rw [dl_at_0 ho hin] at this
          rw [nI_1]
          exact this
      have := key30 _ 0 (Nat.zero_add _) (fun j k _ hk => by omega)
      rw [dl_at_0 ho hin] at this
      rw [nI_1]
      exact this
  exact key (tr_n t) 0 (by omega) (fun j hj => by omega)
theorem km_at {x1 x2 : Int32} (i n : Nat) (k1 : i < n → P (X.2 3 i) X) (k0 : n ≤ i → P (-1) X) (hn : n ≤ 400) (hi : i < 2 ^ 31 := by omega) (h1 : x1 = nI i := by rfl) (h2 : x2 = nI n := by rfl) : gx_C (gm_O θ) mX7_at [.ref (gm_am θ), .int x1, .int x2] X (gm_Pi P) := by
  subst h1 h2
  refine em_at (fun K h => bm_at_0 h (pk_le n i k0 (fun c => ⟨vp_in_nI (by omega) (by decide), ?_⟩)))
  rw [nI_clamp (by omega)]
  exact k1 c
theorem km_letterN {x0 : Int32} (c : Nat) (hc : c < 256) (k1 : sg_l c → P 1 X) (k0 : ¬ sg_l c → P 0 X) (h : x0 = nI c := by rfl) : gx_C (gm_O θ) mX7_isLetter [.int x0] X (gm_Pi P) := by
  subst h
  refine km_isLetter (fun a b => k1 ?_) (fun a => k0 ?_)
  · have a' : nI 97 ≤ nI c := a
    have b' : nI c ≤ nI 122 := b
    rw [nI_leI (by decide) (by omega)] at a'
    rw [nI_leI (by omega) (by decide)] at b'
    exact ⟨a', b'⟩
  · rintro ⟨z1, z2⟩
    rcases a with a | a
    · have a' : nI c < nI 97 := a
      rw [nI_ltI (by omega) (by decide)] at a'
      omega
    · have a' : nI 122 < nI c := a
      rw [nI_ltI (by decide) (by omega)] at a'
      omega
theorem km_signN {x0 : Int32} (c : Nat) (hc : c < 256) (k1 : sg_s c → P 1 X) (k0 : ¬ sg_s c → P 0 X) (h : x0 = nI c := by rfl) : gx_C (gm_O θ) mX7_isSign [.int x0] X (gm_Pi P) := by
  subst h
  have e : ((97 ≤ nI c ∧ nI c ≤ 122) ∨ (48 ≤ nI c ∧ nI c ≤ 57)) ↔ sg_s c := by
    show ((nI 97 ≤ nI c ∧ nI c ≤ nI 122) ∨ (nI 48 ≤ nI c ∧ nI c ≤ nI 57)) ↔ ((97 ≤ c ∧ c ≤ 122) ∨ (48 ≤ c ∧ c ≤ 57))
    rw [nI_leI (by decide) (by omega), nI_leI (by omega) (by decide), nI_leI (by decide) (by omega), nI_leI (by omega) (by decide)]
  exact km_isSign (fun a => k1 (e.mp a)) (fun a => k0 (fun z => a (e.mpr z)))
end MC
