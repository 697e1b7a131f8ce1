/-! relabel() and retext(): the model meets the specification -/
theorem tr_sl_d (t : tr_) (i : Nat) (a : List Nat) : tr_d (tr_sl t i a) = tr_d t := by
  funext k
  show rw_d (if k = i then (tr_a t i, tr_k t i, tr_d t i, a, tr_t t i) else tr_r t k) = rw_d (tr_r t k)
  by_cases c : k = i
  · rw [if_pos c, c]
  · rw [if_neg c]
theorem tr_st_d (t : tr_) (i : Nat) (a : List Nat) : tr_d (tr_st t i a) = tr_d t := by
  funext k
  show rw_d (if k = i then (tr_a t i, tr_k t i, tr_d t i, tr_l t i, a) else tr_r t k) = rw_d (tr_r t k)
  by_cases c : k = i
  · rw [if_pos c, c]
  · rw [if_neg c]
theorem tr_sl_l (t : tr_) (i : Nat) (a : List Nat) (k : Nat) : tr_l (tr_sl t i a) k = if k = i then a else tr_l t k := by
  show rw_l (if k = i then (tr_a t i, tr_k t i, tr_d t i, a, tr_t t i) else tr_r t k) = _
  by_cases c : k = i
  · rw [if_pos c, if_pos c]
  · rw [if_neg c, if_neg c]
theorem dl_at_of {d : Nat → Nat} {n i j : Nat} (h : dl_ok d n) (h0 : 0 < j) (hj : j < n) (hi : i < n) (e : dl_pa d j = i) : ∃ k, k < (dl_cl d n i).length ∧ dl_at d n i k = j := by
  have := (dl_cl_pa h hi).mpr ⟨h0, hj, e⟩
  obtain ⟨k, hk1, hk2⟩ := List.getElem_of_mem this
  refine ⟨k, hk1, ?_⟩
  unfold dl_at
  rw [List.getElem?_eq_getElem hk1, hk2]
  rfl
theorem dl_at_inj {d : Nat → Nat} {n i j k : Nat} (h : dl_ok d n) (hi : i < n) (hj : j < (dl_cl d n i).length) (hk : k < (dl_cl d n i).length) (e : dl_at d n i j = dl_at d n i k) : j = k := by
  rcases Nat.lt_trichotomy j k with c | c | c
  · have := dl_at_lt2 h hi k c (by omega); omega
  · exact c
  · have := dl_at_lt2 h hi j c (by omega); omega
theorem rl_iff {t : tr_} {i : Nat} {a : List Nat} (ho : dl_ok (tr_d t) (tr_n t)) (ht : ¬ tr_tw t) (h0 : 0 < i) (hi : i < tr_n t) (hk : tr_k t (dl_pa (tr_d t) i) = 2) :
    tr_tw1 (tr_sl t i a) (dl_pa (tr_d t) i) ↔ ∃ b, b < (dl_cl (tr_d t) (tr_n t) (dl_pa (tr_d t) i)).length ∧ dl_at (tr_d t) (tr_n t) (dl_pa (tr_d t) i) b ≠ i ∧ a = tr_l t (dl_at (tr_d t) (tr_n t) (dl_pa (tr_d t) i) b) := by
  have hp := (dl_pa_spec ho h0 hi).1
  obtain ⟨ki, k1, k2⟩ := dl_at_of ho h0 hi (i := dl_pa (tr_d t) i) (by omega) rfl
  have en : tr_n (tr_sl t i a) = tr_n t := rfl
  unfold tr_tw1
  rw [tr_sl_d, en]
  constructor
  · rintro ⟨j, k, j1, j2, j3⟩
    rw [tr_sl_l, tr_sl_l] at j3
    by_cases ck : dl_at (tr_d t) (tr_n t) (dl_pa (tr_d t) i) k = i
    · have cj : dl_at (tr_d t) (tr_n t) (dl_pa (tr_d t) i) j ≠ i := fun z => by
        have := dl_at_inj ho (by omega) (by omega) j2 (z.trans ck.symm); omega
      rw [if_pos ck, if_neg cj] at j3
      exact ⟨j, by omega, cj, j3⟩
    · by_cases cj : dl_at (tr_d t) (tr_n t) (dl_pa (tr_d t) i) j = i
      · rw [if_neg ck, if_pos cj] at j3
        exact ⟨k, j2, ck, j3.symm⟩
      · rw [if_neg ck, if_neg cj] at j3
        exact absurd ⟨_, by omega, hk, j, k, j1, j2, j3⟩ ht
  · rintro ⟨b, b1, b2, b3⟩
    rcases Nat.lt_trichotomy b ki with c | c | c
    · exact ⟨b, ki, c, k1, by rw [tr_sl_l, tr_sl_l, if_pos k2, if_neg b2]; exact b3⟩
    · exact absurd (c ▸ k2) b2
    · exact ⟨ki, b, c, b1, by rw [tr_sl_l, tr_sl_l, if_pos k2, if_neg b2]; exact b3.symm⟩
section MR
variable {θ : gm_T} {P : Int32 → gm_X → Prop} {X : gm_X} {z : zz} {c : Nat}
theorem ma_cp.ms {X' : gm_X} {p q n : Nat} (h : ma_cp X X' p q n) (hq : 8 ≤ q) : ms_fr X X' := by
  obtain ⟨h1, h2, h3, h4, h5⟩ := h
  refine ⟨fun f _ => by rw [h1], fun a ha => h2 a ?_ ?_, fun p' hp => by rw [h3, if_neg (by omega)], fun p' i w hp hi hw => h5 p' i w (by omega) hi hw⟩
  · rintro rfl; simp at ha
  · rintro rfl; simp at ha
theorem MS.tk {X' : gm_X} {i lo hi : Nat} (h : MS X z) (k : tk_fr i lo hi X X') : MS X' (z_p z []) := by
  obtain ⟨k1, k2, k3⟩ := k
  have e : ∀ f, f ≠ 4 → X'.1 f = X.1 f := fun f hf => by rw [k1, if_neg hf]
  obtain ⟨h1, h2, h3, h4, h5, h6, h7, h8, h9, h10, h11⟩ := h
  refine ⟨fun p hp => ?_, ?_, ⟨by rw [k1, if_pos rfl]; rfl, Nat.zero_le _, fun j hj => absurd hj (Nat.not_lt_zero _)⟩, ?_, ?_, ?_, ?_, ?_, ?_, ?_, ?_⟩
  · have := h1 p hp
    have h30 := this.2.2.1
    exact ⟨this.1, by rw [k2 1 (by decide)]; exact this.2.1, this.2.2.1, fun j (hj : j < tr_n (zt z p)) => ⟨(this.2.2.2 j hj).1.of (this.2.2.2 j hj).2 (fun u hu => k3 p j u (by omega) hu (by omega)), (this.2.2.2 j hj).2⟩⟩
  · unfold mN; rw [e 2 (by decide)]; exact h2
  · unfold mW; rw [e 6 (by decide), k2 5 (by decide)]; exact h4
  · unfold mC; rw [k2 7 (by decide)]; exact h5
  · unfold mF; rw [k2 8 (by decide)]; exact h6
  · unfold mQ; rw [e 20 (by decide), k2 23 (by decide), k2 24 (by decide)]; exact h7
  · unfold mA; rw [e 21 (by decide), k2 25 (by decide), k2 26 (by decide), k2 27 (by decide)]; exact h8
  · unfold mM; rw [e 22 (by decide)]; exact h9
  · unfold mX; rw [e 31 (by decide), k2 29 (by decide), k2 30 (by decide)]; exact h10
  · unfold mG; rw [e 32 (by decide)]; exact h11
/-- a tree of place 8 or above comes into a place -/
theorem MS.put {X' : gm_X} {p q : Nat} {t : tr_} (h : MS X z) (hm : ma_mp X p t) (k : ma_cp X X' p q (tr_n t)) (hp : 8 ≤ p) (hq : q < 8) : MS X' (z_t z q t) := by
  obtain ⟨h1, h2, h3, h4, h5, h6, h7, h8, h9, h10, h11⟩ := h
  obtain ⟨k1, k2, k3, k4, k5⟩ := id k
  have e : ∀ b, b ≠ 0 → b ≠ 1 → X'.2 b = X.2 b := k2
  refine ⟨fun r hr => ?_, ?_, ?_, ?_, ?_, ?_, ?_, ?_, ?_, ?_, ?_⟩
  · show ma_mp X' r (if r = q then t else zt z r)
    by_cases c : r = q
    · rw [if_pos c, c]; exact ma_cp.to k hm (by omega)
    · rw [if_neg c]; exact ma_cp.keep k (h1 r hr) c
  · unfold mN; rw [k1]; exact h2
  · unfold ma_tape; rw [k1, e 3 (by decide) (by decide)]; exact h3
  · unfold mW; rw [k1, e 5 (by decide) (by decide)]; exact h4
  · unfold mC; rw [e 7 (by decide) (by decide)]; exact h5
  · unfold mF; rw [e 8 (by decide) (by decide)]; exact h6
  · unfold mQ; rw [k1, e 23 (by decide) (by decide), e 24 (by decide) (by decide)]; exact h7
  · unfold mA; rw [k1, e 25 (by decide) (by decide), e 26 (by decide) (by decide), e 27 (by decide) (by decide)]; exact h8
  · unfold mM; rw [k1]; exact h9
  · unfold mX; rw [k1, e 29 (by decide) (by decide), e 30 (by decide) (by decide)]; exact h10
  · unfold mG; rw [k1]; exact h11
theorem rw_ok.setl {t : tr_} {i : Nat} {a : List Nat} (h : rw_ok (tr_r t i)) (ha : lb_ok a) : rw_ok (tr_a t i, tr_k t i, tr_d t i, a, tr_t t i) := ⟨h.1, h.2.1, h.2.2.1, ha.2.1, ha.2.2, h.2.2.2.2.2⟩
theorem rw_ok.sett {t : tr_} {i : Nat} {a : List Nat} (h : rw_ok (tr_r t i)) (ha : tx_ok a) : rw_ok (tr_a t i, tr_k t i, tr_d t i, tr_l t i, a) := ⟨h.1, h.2.1, h.2.2.1, h.2.2.2.1, h.2.2.2.2.1, ha.1, ha.2⟩
theorem ma_mp.setl {X' : gm_X} {t : tr_} {i : Nat} {a : List Nat} (h : ma_mp X 8 t) (hi : i < tr_n t) (ha : lb_ok a) (k : tk_fr i 3 10 X X') (hm : ma_ml X' 8 i 3 a) : ma_mp X' 8 (tr_sl t i a) := by
  have h30 := h.2.2.1
  refine ⟨by decide, by rw [k.2.1 1 (by decide)]; exact h.2.1, h30, fun j hj => ?_⟩
  have hj : j < tr_n t := hj
  have := h.2.2.2 j hj
  show ma_mr X' 8 j (if j = i then _ else _) ∧ rw_ok (if j = i then _ else _)
  by_cases c : j = i
  · rw [if_pos c]
    subst c
    have e : ∀ w, w < 19 → ¬ (3 ≤ w ∧ w < 10) → ma_nd X' 8 j w = ma_nd X 8 j w := fun w hw hn => k.2.2 8 j w (by omega) hw (fun z => hn z.2.2)
    have ht8 := this.2.2.2.2.2.2.1
    refine ⟨⟨by rw [e 0 (by decide) (by decide)]; exact this.1.1, by rw [e 1 (by decide) (by decide)]; exact this.1.2.1, by rw [e 2 (by decide) (by decide)]; exact this.1.2.2.1, hm, ⟨by rw [e 10 (by decide) (by decide)]; exact this.1.2.2.2.2.1, fun u hu => ?_⟩⟩, this.2.setl ha⟩
    have hu : u < (rw_t (tr_r t j)).length := hu
    rw [e _ (by omega) (by omega)]; exact this.1.2.2.2.2.2 u hu
  · rw [if_neg c]
    exact ⟨this.1.of this.2 (fun u hu => k.2.2 8 j u (by omega) hu (fun z => c z.2.1)), this.2⟩
theorem ma_mp.sett {X' : gm_X} {t : tr_} {i : Nat} {a : List Nat} (h : ma_mp X 8 t) (hi : i < tr_n t) (ha : tx_ok a) (k : tk_fr i 10 19 X X') (hm : ma_ml X' 8 i 10 a) : ma_mp X' 8 (tr_st t i a) := by
  have h30 := h.2.2.1
  refine ⟨by decide, by rw [k.2.1 1 (by decide)]; exact h.2.1, h30, fun j hj => ?_⟩
  have hj : j < tr_n t := hj
  have := h.2.2.2 j hj
  show ma_mr X' 8 j (if j = i then _ else _) ∧ rw_ok (if j = i then _ else _)
  by_cases c : j = i
  · rw [if_pos c]
    subst c
    have e : ∀ w, w < 19 → ¬ (10 ≤ w ∧ w < 19) → ma_nd X' 8 j w = ma_nd X 8 j w := fun w hw hn => k.2.2 8 j w (by omega) hw (fun z => hn z.2.2)
    have ht8 := this.2.2.2.2.1
    refine ⟨⟨by rw [e 0 (by decide) (by decide)]; exact this.1.1, by rw [e 1 (by decide) (by decide)]; exact this.1.2.1, by rw [e 2 (by decide) (by decide)]; exact this.1.2.2.1, ⟨by rw [e 3 (by decide) (by decide)]; exact this.1.2.2.2.1.1, fun u hu => ?_⟩, hm⟩, this.2.sett ha⟩
    have hu : u < (rw_l (tr_r t j)).length := hu
    rw [e _ (by omega) (by omega)]; exact this.1.2.2.2.1.2 u hu
  · rw [if_neg c]
    exact ⟨this.1.of this.2 (fun u hu => k.2.2 8 j u (by omega) hu (fun z => c z.2.1)), this.2⟩
theorem ks_named {t : tr_} {x y : Int32} {q : Nat} {k : Nat → Prop} {e : Prop} (hm : ma_mp X q t) (hs : sp_named t x k e) (k1 : ∀ i, i < tr_n t → k i → P (nI i) X) (k0 : e → P (-1) X) (hy : y = nI q := by rfl) : gx_C (gm_O θ) mX7_named [.ref (gm_am θ), .int y, .int x] X (gm_Pi P) :=
  km_named q hm.1 hm.2.1 hm.2.2.1 (nm := tr_a t) (fun i hi => (hm.2.2.2 i hi).1.1) (fun i hi e _ => k1 i hi (hs.1 i hi e)) (fun e => k0 (hs.2 e)) hy
theorem ks_retext {x y : Int32} (hz : zok c z) (h : MS X z) (hs : sp_retext x y z (mz P)) : gx_C (gm_O θ) mX7_retext [.ref (gm_am θ), .int x, .int y] X (gm_Pi P) := by
  refine em_retext (fun K hK => bm_retext_0 hK (ks_lacks hz h hs (fun q hq e n0 hk => ?_)))
  subst e
  have hp := h.1 q hq
  have h30 := hp.2.2.1
  refine ks_named hp hk (fun i hi hk2 => ⟨fun _ => ?_, fun a => absurd (nI_pos' (by omega)) a⟩) (fun hk2 => ⟨fun a => absurd a (by decide), fun _ => ks_fnd (f := 6) h hk2⟩)
  refine km_copyAll q 8 (tr_n (zt z q)) hp.2.1 h30 (fun X1 hc => ?_)
  have h1 : MS X1 z := h.fr (hc.ms (by decide))
  have hm1 := ma_cp.to hc hp (by decide)
  refine km_takes10 i h1.2.2.1 (by omega) (fun ha X2 hf hl => ⟨fun a => absurd a (by decide), fun _ => ?_⟩) (fun ha X2 hf => ⟨fun _ => ks_fnd (f := 3) (h1.tk hf) (hk2.1 ha), fun a => absurd rfl a⟩)
  have hm2 := ma_mp.sett hm1 hi ha hf hl
  refine km_copyAll 8 q (tr_n (zt z q)) hm2.2.1 h30 (fun X3 hc3 => ?_)
  have h3 := (h1.tk hf).put hm2 hc3 (by decide) hq
  refine km_of q i 10 ?_
  have er := (h3.1 q hq).2.2.2 i (by show i < tr_n (if q = q then tr_st (zt z q) i (zp z) else _); rw [if_pos rfl]; exact hi)
  have e2 : ma_nd X3 q i 10 = nI (zp z).length := by
    have := er.1.2.2.2.2.1
    have e3 : tr_r (zt (z_t (z_p z []) q (tr_st (zt z q) i (zp z))) q) i = (tr_a (zt z q) i, tr_k (zt z q) i, tr_d (zt z q) i, tr_l (zt z q) i, zp z) := by
      show tr_r (if q = q then tr_st (zt z q) i (zp z) else _) i = _
      rw [if_pos rfl]
      exact if_pos rfl
    rw [e3] at this
    exact this
  rw [e2]
  exact hk2.2 ha X3 h3
theorem ks_relabel {x y : Int32} (hz : zok c z) (h : MS X z) (hs : sp_relabel x y z (mz P)) : gx_C (gm_O θ) mX7_relabel [.ref (gm_am θ), .int x, .int y] X (gm_Pi P) := by
  refine em_relabel (fun K hK => bm_relabel_0 hK (ks_lacks hz h hs (fun q hq e n0 hk => ?_)))
  subst e
  have hp := h.1 q hq
  have ho := hz.t hq n0
  have h30 := hp.2.2.1
  refine ks_named hp hk (fun i hi hk2 => ⟨fun _ => ?_, fun a => absurd (nI_pos' (by omega)) a⟩) (fun hk2 => ⟨fun a => absurd a (by decide), fun _ => ks_fnd (f := 6) h hk2⟩)
  refine km_copyAll q 8 (tr_n (zt z q)) hp.2.1 h30 (fun X1 hc => ?_)
  have h1 : MS X1 z := h.fr (hc.ms (by decide))
  have hm1 := ma_cp.to hc hp (by decide)
  refine km_takes3 i h1.2.2.1 (by omega) (fun ha X2 hf hl => ⟨fun a => absurd a (by decide), fun _ => ?_⟩) (fun ha X2 hf => ⟨fun _ => ks_fnd (f := 3) (h1.tk hf) (hk2.1 ha), fun a => absurd rfl a⟩)
  have hk2 := hk2.2 ha
  have hm2 := ma_mp.setl hm1 hi ha hf hl
  have h2 := h1.tk hf
  have hp2 : ma_mp X2 q (zt z q) := h2.1 q hq
  have good : ¬ rl_bad (zt z q) i (zp z) → gm_G θ K mX7_relabel (gm_Pi P) 145 [(0, .ref (gm_am θ)), (1, .int (nI q)), (4, .int (nI i))] [] X2 := fun hb => by
    refine bm_relabel_145 hK (km_copyAll 8 q (tr_n (zt z q)) hm2.2.1 h30 (fun X3 hc3 => ?_))
    have h3 := h2.put hm2 hc3 (by decide) hq
    refine km_of q i 3 ?_
    have er := (h3.1 q hq).2.2.2 i (by show i < tr_n (if q = q then tr_sl (zt z q) i (zp z) else _); rw [if_pos rfl]; exact hi)
    have e2 : ma_nd X3 q i 3 = nI (zp z).length := by
      have := er.1.2.2.2.1.1
      have e3 : tr_r (zt (z_t (z_p z []) q (tr_sl (zt z q) i (zp z))) q) i = (tr_a (zt z q) i, tr_k (zt z q) i, tr_d (zt z q) i, zp z, tr_t (zt z q) i) := by
        show tr_r (if q = q then tr_sl (zt z q) i (zp z) else _) i = _
        rw [if_pos rfl]
        exact if_pos rfl
      rw [e3] at this
      exact this
    rw [e2]
    exact hk2.2 hb X3 h3
  refine km_parent q i hp2.md ho.1 hi (fun i0 => ⟨fun _ => good (fun z => by have := z.1; omega), fun a => absurd (by decide) a⟩) (fun i0 => ⟨fun a => absurd a (nI_pos (by have := (dl_pa_spec ho.1 i0 hi).1; omega)), fun _ => ?_⟩)
  have hpa := (dl_pa_spec ho.1 i0 hi).1
  refine km_of q (dl_pa (tr_d (zt z q)) i) 1 ?_
  rw [(hp2.2.2.2 _ (by show dl_pa (tr_d (zt z q)) i < tr_n (zt z q); omega)).1.2.1]
  have hk3 : tr_k (zt z q) (dl_pa (tr_d (zt z q)) i) ≤ 3 := (ho.2.2.1 _ (by omega)).2.1
  refine pl_eq (a := tr_k (zt z q) (dl_pa (tr_d (zt z q)) i)) (b := 2) (fun ek => ?_) (fun ek => good (fun z => ek z.2.1))
  have hiff := rl_iff (a := zp z) ho.1 ho.2.2.2.2.2 i0 hi ek
  have hpn : dl_pa (tr_d (zt z q)) i < tr_n (zt z q) := by omega
  have hen := (dl_en_spec (d := tr_d (zt z q)) hpn).2.1
  have key : ∀ m b, b + m = (dl_cl (tr_d (zt z q)) (tr_n (zt z q)) (dl_pa (tr_d (zt z q)) i)).length → (∀ b', b' < b → dl_at (tr_d (zt z q)) (tr_n (zt z q)) (dl_pa (tr_d (zt z q)) i) b' ≠ i → zp z ≠ tr_l (zt z q) (dl_at (tr_d (zt z q)) (tr_n (zt z q)) (dl_pa (tr_d (zt z q)) i) b')) →
      gm_G θ K mX7_relabel (gm_Pi P) 92 [(0, .ref (gm_am θ)), (1, .int (nI q)), (4, .int (nI i)), (5, .int (nI (dl_pa (tr_d (zt z q)) i))), (6, .int (nI (dl_at (tr_d (zt z q)) (tr_n (zt z q)) (dl_pa (tr_d (zt z q)) i) b)))] [] X2 := by
    intro m
    induction m with
    | zero =>
      intro b hb hu
      refine bm_relabel_92 hK (km_end q (dl_pa (tr_d (zt z q)) i) hp2.md hpn ?_)
      rw [dl_at_len (k := b) (by omega)]
      refine pl_le (fun _ => good (fun z => ?_)) (fun c => by omega)
      obtain ⟨b', q1, q2, q3⟩ := hiff.mp z.2.2
      exact hu b' (by omega) q2 q3
    | succ m ih =>
      intro b hb hu
      have hb2 : b < (dl_cl (tr_d (zt z q)) (tr_n (zt z q)) (dl_pa (tr_d (zt z q)) i)).length := by omega
      have hin := dl_at_in ho.1 hpn hb2
      have next : (dl_at (tr_d (zt z q)) (tr_n (zt z q)) (dl_pa (tr_d (zt z q)) i) b ≠ i → zp z ≠ tr_l (zt z q) (dl_at (tr_d (zt z q)) (tr_n (zt z q)) (dl_pa (tr_d (zt z q)) i) b)) → gm_G θ K mX7_relabel (gm_Pi P) 133 [(0, .ref (gm_am θ)), (1, .int (nI q)), (4, .int (nI i)), (5, .int (nI (dl_pa (tr_d (zt z q)) i))), (6, .int (nI (dl_at (tr_d (zt z q)) (tr_n (zt z q)) (dl_pa (tr_d (zt z q)) i) b)))] [] X2 := fun hne => by
        refine bm_relabel_133 hK (km_end q (dl_at (tr_d (zt z q)) (tr_n (zt z q)) (dl_pa (tr_d (zt z q)) i) b) hp2.md (show _ < tr_n (zt z q) by omega) ?_)
        rw [← dl_at_s ho.1 hpn hb2]
        refine ih (b + 1) (by omega) (fun b' hb' => ?_)
        by_cases c : b' = b
        · rw [c]; exact hne
        · exact hu b' (by omega)
      refine bm_relabel_92 hK (km_end q (dl_pa (tr_d (zt z q)) i) hp2.md hpn ?_)
      refine pl_le (a := dl_en (tr_d (zt z q)) (tr_n (zt z q)) (dl_pa (tr_d (zt z q)) i)) (fun c => by omega) (fun _ => pl_eq (fun e => next (fun z => absurd e z)) (fun e => ?_))
      have r8 := hm2.2.2.2 i hi
      have e8 : tr_r (tr_sl (zt z q) i (zp z)) i = (tr_a (zt z q) i, tr_k (zt z q) i, tr_d (zt z q) i, zp z, tr_t (zt z q) i) := if_pos rfl
      rw [e8] at r8
      have rb := hp2.2.2.2 (dl_at (tr_d (zt z q)) (tr_n (zt z q)) (dl_pa (tr_d (zt z q)) i) b) (show _ < tr_n (zt z q) by omega)
      exact km_like3 8 i q (dl_at (tr_d (zt z q)) (tr_n (zt z q)) (dl_pa (tr_d (zt z q)) i) b) r8.1 rb.1 r8.2 rb.2 (fun e2 => ⟨fun a => absurd a (by decide), fun _ => ks_fnd (f := 4) h2 (hk2.1 ⟨i0, ek, hiff.mpr ⟨b, hb2, e, e2⟩⟩)⟩) (fun e2 => ⟨fun _ => next (fun _ => e2), fun a => absurd rfl a⟩)
  have := key _ 0 (Nat.zero_add _) (fun b' hb' => by omega)
  rw [dl_at_0 ho.1 hpn] at this
  rw [nI_1]
  exact this
end MR
