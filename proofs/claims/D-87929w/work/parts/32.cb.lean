set_option maxRecDepth 100000
/-! rows of bytes -/
theorem sb_lo : ∀ c, c < 256 → (c < 128 → sb_b c = nI c) ∧ (128 ≤ c → sb_b c < 0) := by decide
theorem sb_bI {c : Nat} (h : c < 128) : sb_b c = nI c := (sb_lo c (by omega)).1 h
theorem sb_inj {a b : Nat} (ha : a < 256) (hb : b < 256) (h : sb_b a = sb_b b) : a = b := by
  have h1 := (sb_byte a ha).1
  rw [h, (sb_byte b hb).1, nI_eq (by omega) (by omega)] at h1
  exact h1.symm
theorem sb_is {a b : Nat} (ha : a < 256) (hb : b < 128) : sb_b a = nI b ↔ a = b := by
  rw [← sb_bI hb]
  exact ⟨fun h => sb_inj ha (by omega) h, fun h => by rw [h]⟩
theorem sb_rng {c l h : Nat} (hc : c < 256) (hl : l < 128) (hh : h < 128) : (nI l ≤ sb_b c ∧ sb_b c ≤ nI h) ↔ (l ≤ c ∧ c ≤ h) := by
  by_cases z : c < 128
  · rw [sb_bI z, nI_leI (by omega) (by omega), nI_leI (by omega) (by omega)]
  · have h2 := (sb_lo c hc).2 (by omega)
    refine ⟨fun q => ?_, fun q => by omega⟩
    have := nI_pos' (n := l) (by omega)
    have h3 := Int32.le_trans this q.1
    exact absurd h2 (Int32.not_lt.mpr h3)
section CB
variable {θ : gc_T} {P : Int32 → gc_S → Prop} {V : gc_S → Prop} {R : Option Nat → gc_S → Prop} {σ : gc_S} {n cc ss : Nat}
theorem kc_isLetter {x : Int32} (c : Nat) (hc : c < 256) (k1 : sg_l c → P 1 σ) (k0 : ¬ sg_l c → P 0 σ) (h : x = sb_b c := by rfl) : gx_C (gc_O θ) (nX0_isLetter n) [.int x] σ (gc_Pi P) := by
  subst h
  have e := sb_rng (l := 97) (h := 122) hc (by decide) (by decide)
  refine ec_X0_isLetter (fun K h => bc_X0_isLetter_0 h ⟨fun c1 => bc_X0_isLetter_16 h (k0 (fun z => Int32.not_le.mpr c1 (e.mpr z).1)), fun c1 => ⟨fun c2 => bc_X0_isLetter_16 h (k0 (fun z => Int32.not_le.mpr c2 (e.mpr z).2)), fun c2 => k1 (e.mp ⟨Int32.not_lt.mp c1, Int32.not_lt.mp c2⟩)⟩⟩)
theorem kc_isSign {x : Int32} (c : Nat) (hc : c < 256) (k1 : sg_s c → P 1 σ) (k0 : ¬ sg_s c → P 0 σ) (h : x = sb_b c := by rfl) (hn : 1 ≤ n := by omega) : gx_C (gc_O θ) (nX0_isSign n) [.int x] σ (gc_Pi P) := by
  subst h
  obtain ⟨n, rfl⟩ : ∃ k, n = k + 1 := ⟨n - 1, by omega⟩
  have e := sb_rng (l := 48) (h := 57) hc (by decide) (by decide)
  refine ec_X0_isSign (fun K h => bc_X0_isSign_0 h (kc_isLetter c hc (fun a => ⟨fun q => absurd q (by decide), fun _ => bc_X0_isSign_19 h (k1 (Or.inl a))⟩) (fun a => ⟨fun _ => ⟨fun c1 => bc_X0_isSign_23 h (k0 ?_), fun c1 => ⟨fun c2 => bc_X0_isSign_23 h (k0 ?_), fun c2 => bc_X0_isSign_19 h (k1 (Or.inr (e.mp ⟨Int32.not_lt.mp c1, Int32.not_lt.mp c2⟩)))⟩⟩, fun q => absurd rfl q⟩)))
  · rintro (q | q)
    · exact a q
    · exact Int32.not_le.mpr c1 (e.mpr q).1
  · rintro (q | q)
    · exact a q
    · exact Int32.not_le.mpr c2 (e.mpr q).2
theorem kc_isPlace {x : Int32} (k1 : ∀ p : Nat, p < 8 → x = nI p → P 1 σ) (k0 : (x < 0 ∨ nI 8 ≤ x) → P 0 σ) : gx_C (gc_O θ) (nX0_isPlace n) [.int x] σ (gc_Pi P) := by
  refine ec_X0_isPlace (fun K h => bc_X0_isPlace_0 h ⟨fun c => bc_X0_isPlace_14 h (k0 (Or.inl c)), fun c => ⟨fun c2 => bc_X0_isPlace_14 h (k0 (Or.inr c2)), fun c2 => ?_⟩⟩)
  obtain ⟨j, h1, h2⟩ := nI_of c
  subst h2
  have c3 : ¬ nI 8 ≤ nI j := c2
  rw [nI_leI (by decide) h1] at c3
  exact k1 j (by omega) rfl
theorem kc_isSame {L L' : Nat → Prop} {a b : Nat} {s t : List Nat} (ha : cB θ σ L a s) (hb : cB θ σ L' b t) (ls : s.length < 2 ^ 31) (lt : t.length < 2 ^ 31) (cs : ∀ c ∈ s, c < 256) (ct : ∀ c ∈ t, c < 256) (k1 : s = t → P 1 σ) (k0 : s ≠ t → P 0 σ) : gx_C (gc_O θ) (nX0_isSame n) [.ref a, .ref b] σ (gc_Pi P) := by
  refine ec_X0_isSame (x0 := some a) (x1 := some b) (fun K h => bc_X0_isSame_0 h ⟨a, rfl, ha.isB, b, rfl, hb.isB, ?_⟩)
  rw [ha.n, hb.n]
  have done0 : ∀ j, j ≤ s.length → s ≠ t → gc_G θ K (nX0_isSame n) (gc_Pi P) 15 [(0, va_rf (some a)), (1, va_rf (some b)), (2, .int 0), (3, .int (nI j))] [] σ 0 0 := fun j hj hne => by
    refine bc_X0_isSame_15 h ⟨a, rfl, ha.isB, ?_⟩
    exact ⟨fun _ => bc_X0_isSame_46 h ⟨rfl, k0 hne⟩, fun _ => ⟨fun _ => bc_X0_isSame_46 h ⟨rfl, k0 hne⟩, fun c => absurd rfl c⟩⟩
  refine ⟨fun c => ?_, fun c => ?_⟩
  · have c' : nI s.length = nI t.length := c
    rw [nI_eq ls lt] at c'
    refine bc_X0_isSame_12 h ?_
    have key : ∀ m j, j + m = s.length → (∀ u, u < j → s.getD u 0 = t.getD u 0) → gc_G θ K (nX0_isSame n) (gc_Pi P) 15 [(0, va_rf (some a)), (1, va_rf (some b)), (2, .int 1), (3, .int (nI j))] [] σ 0 0 := by
      intro m
      induction m with
      | zero =>
        intro j hj hu
        refine bc_X0_isSame_15 h ⟨a, rfl, ha.isB, ?_⟩
        rw [ha.n]
        exact pl_le (a := s.length) (b := j) (fun _ => bc_X0_isSame_46 h ⟨rfl, k1 (ls_ext c' (fun u hu2 => hu u (by omega)))⟩) (fun c => by omega)
      | succ m ih =>
        intro j hj hu
        have h1 := ha.at (j := j) (by omega)
        have h2 := hb.at (j := j) (by omega)
        refine bc_X0_isSame_15 h ⟨a, rfl, ha.isB, ?_⟩
        rw [ha.n]
        refine pl_le (a := s.length) (b := j) (fun c => by omega) (fun _ => ⟨fun c => absurd c (by decide), fun _ => ⟨h1.1, vp_in_nI (by omega) ls, b, rfl, h2.1, ?_, ?_⟩⟩)
        · rw [hb.n]; exact vp_in_nI (by omega) lt
        · rw [nI_clamp (by omega), h1.2, h2.2, nI_1]
          refine ⟨fun e => ih (j + 1) (by omega) (fun u hu2 => ?_), fun e => done0 (j + 1) (by omega) (fun z => e (by rw [z]))⟩
          by_cases z : u = j
          · rw [z]; exact sb_inj (cs _ (ls_getD_mem (by omega))) (ct _ (ls_getD_mem (by omega))) e
          · exact hu u (by omega)
    exact key s.length 0 (by omega) (fun u hu => by omega)
  · refine bc_X0_isSame_12 h (done0 0 (by omega) (fun z => c ?_))
    rw [z]
/-- a part of a row of bytes, as a new row -/
theorem kc_part {a fr to : Nat} {bs : List Nat} {x1 x2 : Int32} (ha : gc_is σ a 15) (hn1 : to ≤ gc_n σ a) (hft : fr ≤ to) (ht : to ≤ bs.length) (h4 : to ≤ 400) (hb : ∀ j, j < bs.length → gc_E σ a j = sb_b (bs.getD j 0))
    (k : ∀ σ' q, q ∉ gc_d σ → gc_A θ q → gc_d σ' = gc_d σ ++ [q] → cx θ (fun _ => False) σ σ' → cB θ σ' (· = q) q ((bs.take to).drop fr) → (∀ b, gc_I σ' 809 b = if b = q then 0 else gc_I σ 809 b) → R (some q) σ')
    (h1 : x1 = nI fr := by rfl) (h2 : x2 = nI to := by rfl) (hn : 1 ≤ n := by omega) (hc : 1 ≤ cc := by omega) (hs : to - fr ≤ ss := by omega) : gx_C (gc_O θ) (nX0_part n cc ss) [.ref a, .int x1, .int x2] σ (gc_Pr R) := by
  subst h1 h2
  obtain ⟨n, rfl⟩ : ∃ k, n = k + 1 := ⟨n - 1, by omega⟩
  refine ec_X0_part (x0 := some a) (fun K h => bc_X0_part_0 h ?_)
  rw [pk_sub hft, nI_clamp (by omega), nI_clamp (by omega), sb_cl0]
  refine ⟨nI_pos (by omega), by omega, hc, hs, ?_⟩
  rintro q hq hA _ rfl
  have haq : a ≠ q := fun z => hq (z ▸ ha.1)
  have hx := cx_new (S := fun _ => False) (θ := θ) σ 15 (to - fr) hq hA
  refine ⟨a, rfl, ⟨hx.is ha, ⟨List.mem_append_right _ (List.mem_singleton_self q), by rw [rd_k_new, if_pos rfl]⟩, nI_pos (by omega), by decide, nI_pos (by omega), ?_, ?_⟩, ?_, ?_⟩
  · rw [rd_n_new, if_neg haq]; omega
  · rw [rd_n_new, if_pos rfl]; omega
  · intro j hj
    rw [rd_E_new, if_neg haq, hb _ (by omega)]
    exact sb_fitB _
  · rintro _ rfl
    have hx2 := hx.trans (cx_cE (gc_new σ q 15 (to - fr)) a q fr 0 (to - fr)) (fun b hb => Or.inr (by rw [hb]; exact ⟨hq, hA⟩))
    have hlen : ((bs.take to).drop fr).length = to - fr := by rw [List.length_drop, List.length_take]; omega
    refine k _ q hq hA rfl hx2 (Or.inr ⟨rfl, ⟨List.mem_append_right _ (List.mem_singleton_self q), ?_⟩, ?_, ?_⟩) ?_
    · show gc_k (gc_new σ q 15 (to - fr)) q = 15
      rw [rd_k_new, if_pos rfl]
    · show gc_n (gc_new σ q 15 (to - fr)) q = _
      rw [rd_n_new, if_pos rfl, hlen]
    · intro j hj
      rw [hlen] at hj
      rw [rd_E_cE, if_pos ⟨rfl, by omega, by omega⟩, rd_E_new, if_neg haq, Nat.sub_zero, hb _ (by omega)]
      congr 1
      rw [List.getD_eq_getElem?_getD, List.getD_eq_getElem?_getD, List.getElem?_drop, List.getElem?_take_of_lt (by omega)]
    · intro b
      show gc_I (gc_new σ q 15 (to - fr)) 809 b = _
      rw [rd_I_new]
theorem kc_isLabel {L : Nat → Prop} {a : Nat} {s : List Nat} (ha : cB θ σ L a s) (ls : s.length ≤ 400) (cs : ∀ c ∈ s, c < 256) (k1 : 0 < s.length → s.length ≤ 6 → (∀ c ∈ s, sg_l c) → P 1 σ) (k0 : ¬ (0 < s.length ∧ s.length ≤ 6 ∧ ∀ c ∈ s, sg_l c) → P 0 σ) (hn : 1 ≤ n := by omega) : gx_C (gc_O θ) (nX0_isLabel n) [.ref a] σ (gc_Pi P) := by
  obtain ⟨n, rfl⟩ : ∃ k, n = k + 1 := ⟨n - 1, by omega⟩
  refine ec_X0_isLabel (x0 := some a) (fun K h => bc_X0_isLabel_0 h ⟨a, rfl, ha.isB, ?_⟩)
  rw [ha.n]
  have done0 : ∀ m j, j + m = s.length → ¬ (0 < s.length ∧ s.length ≤ 6 ∧ ∀ c ∈ s, sg_l c) → gc_G θ K (nX0_isLabel (n + 1)) (gc_Pi P) 20 [(0, va_rf (some a)), (1, .int 0), (2, .int (nI j))] [] σ 0 0 := by
    intro m
    induction m with
    | zero =>
      intro j hj hne
      refine bc_X0_isLabel_20 h ⟨a, rfl, ha.isB, ?_⟩
      rw [ha.n]
      exact pl_le (a := s.length) (b := j) (fun _ => ⟨rfl, k0 hne⟩) (fun c => by omega)
    | succ m ih =>
      intro j hj hne
      refine bc_X0_isLabel_20 h ⟨a, rfl, ha.isB, ?_⟩
      rw [ha.n]
      refine pl_le (a := s.length) (b := j) (fun c => by omega) (fun _ => ⟨fun _ => bc_X0_isLabel_43 h ?_, fun c => absurd rfl c⟩)
      rw [nI_1]
      exact ih (j + 1) (by omega) hne
  have key : ∀ m j, j + m = s.length → 0 < s.length → s.length ≤ 6 → (∀ u, u < j → sg_l (s.getD u 0)) → gc_G θ K (nX0_isLabel (n + 1)) (gc_Pi P) 20 [(0, va_rf (some a)), (1, .int 1), (2, .int (nI j))] [] σ 0 0 := by
    intro m
    induction m with
    | zero =>
      intro j hj g1 g2 hu
      refine bc_X0_isLabel_20 h ⟨a, rfl, ha.isB, ?_⟩
      rw [ha.n]
      refine pl_le (a := s.length) (b := j) (fun _ => ⟨rfl, k1 g1 g2 (fun c hc => ?_)⟩) (fun c => by omega)
      obtain ⟨u, hu1, hu2⟩ := List.getElem_of_mem hc
      have := hu u (by omega)
      rw [List.getD_eq_getElem?_getD, List.getElem?_eq_getElem hu1] at this
      rw [← hu2]; exact this
    | succ m ih =>
      intro j hj g1 g2 hu
      have h1 := ha.at (j := j) (by omega)
      refine bc_X0_isLabel_20 h ⟨a, rfl, ha.isB, ?_⟩
      rw [ha.n]
      refine pl_le (a := s.length) (b := j) (fun c => by omega) (fun _ => ⟨fun c => absurd c (by decide), fun _ => ⟨h1.1, vp_in_nI (by omega) (by omega), ?_⟩⟩)
      rw [nI_clamp (by omega), h1.2, nI_1]
      refine kc_isLetter (s.getD j 0) (cs _ (ls_getD_mem (by omega))) (fun e => ⟨fun c => absurd c (by decide), fun _ => ih (j + 1) (by omega) g1 g2 (fun u hu2 => ?_)⟩) (fun e => ⟨fun _ => bc_X0_isLabel_43 h ?_, fun c => absurd rfl c⟩)
      · by_cases z : u = j
        · rw [z]; exact e
        · exact hu u (by omega)
      · rw [nI_1]
        exact done0 m (j + 1) (by omega) (fun z => e (z.2.2 _ (ls_getD_mem (by omega))))
  refine pl_le (a := s.length) (b := 0) (fun c => bc_X0_isLabel_16 h (bc_X0_isLabel_17 h (done0 s.length 0 (by omega) (fun z => by omega)))) (fun g1 => ⟨ha.isB, ?_⟩)
  exact pl_lt (a := 6) (b := s.length) (fun c => bc_X0_isLabel_16 h (bc_X0_isLabel_17 h (done0 s.length 0 (by omega) (fun z => by omega)))) (fun g2 => bc_X0_isLabel_17 h (key s.length 0 (by omega) g1 g2 (fun u hu => by omega)))
theorem kc_isText {L : Nat → Prop} {a : Nat} {s : List Nat} (ha : cB θ σ L a s) (ls : s.length ≤ 400) (cs : ∀ c ∈ s, c < 256) (k1 : s.length ≤ 8 → (∀ c ∈ s, sg_s c) → P 1 σ) (k0 : ¬ (s.length ≤ 8 ∧ ∀ c ∈ s, sg_s c) → P 0 σ) (hn : 2 ≤ n := by omega) : gx_C (gc_O θ) (nX0_isText n) [.ref a] σ (gc_Pi P) := by
  obtain ⟨n, rfl⟩ : ∃ k, n = k + 1 := ⟨n - 1, by omega⟩
  refine ec_X0_isText (x0 := some a) (fun K h => bc_X0_isText_0 h ⟨a, rfl, ha.isB, ?_⟩)
  rw [ha.n]
  have done0 : ∀ m j, j + m = s.length → ¬ (s.length ≤ 8 ∧ ∀ c ∈ s, sg_s c) → gc_G θ K (nX0_isText (n + 1)) (gc_Pi P) 15 [(0, va_rf (some a)), (1, .int 0), (2, .int (nI j))] [] σ 0 0 := by
    intro m
    induction m with
    | zero =>
      intro j hj hne
      refine bc_X0_isText_15 h ⟨a, rfl, ha.isB, ?_⟩
      rw [ha.n]
      exact pl_le (a := s.length) (b := j) (fun _ => ⟨rfl, k0 hne⟩) (fun c => by omega)
    | succ m ih =>
      intro j hj hne
      refine bc_X0_isText_15 h ⟨a, rfl, ha.isB, ?_⟩
      rw [ha.n]
      refine pl_le (a := s.length) (b := j) (fun c => by omega) (fun _ => ⟨fun _ => bc_X0_isText_38 h ?_, fun c => absurd rfl c⟩)
      rw [nI_1]
      exact ih (j + 1) (by omega) hne
  have key : ∀ m j, j + m = s.length → s.length ≤ 8 → (∀ u, u < j → sg_s (s.getD u 0)) → gc_G θ K (nX0_isText (n + 1)) (gc_Pi P) 15 [(0, va_rf (some a)), (1, .int 1), (2, .int (nI j))] [] σ 0 0 := by
    intro m
    induction m with
    | zero =>
      intro j hj g2 hu
      refine bc_X0_isText_15 h ⟨a, rfl, ha.isB, ?_⟩
      rw [ha.n]
      refine pl_le (a := s.length) (b := j) (fun _ => ⟨rfl, k1 g2 (fun c hc => ?_)⟩) (fun c => by omega)
      obtain ⟨u, hu1, hu2⟩ := List.getElem_of_mem hc
      have := hu u (by omega)
      rw [List.getD_eq_getElem?_getD, List.getElem?_eq_getElem hu1] at this
      rw [← hu2]; exact this
    | succ m ih =>
      intro j hj g2 hu
      have h1 := ha.at (j := j) (by omega)
      refine bc_X0_isText_15 h ⟨a, rfl, ha.isB, ?_⟩
      rw [ha.n]
      refine pl_le (a := s.length) (b := j) (fun c => by omega) (fun _ => ⟨fun c => absurd c (by decide), fun _ => ⟨h1.1, vp_in_nI (by omega) (by omega), ?_⟩⟩)
      rw [nI_clamp (by omega), h1.2, nI_1]
      refine kc_isSign (s.getD j 0) (cs _ (ls_getD_mem (by omega))) (fun e => ⟨fun c => absurd c (by decide), fun _ => ih (j + 1) (by omega) g2 (fun u hu2 => ?_)⟩) (fun e => ⟨fun _ => bc_X0_isText_38 h ?_, fun c => absurd rfl c⟩)
      · by_cases z : u = j
        · rw [z]; exact e
        · exact hu u (by omega)
      · rw [nI_1]
        exact done0 m (j + 1) (by omega) (fun z => e (z.2 _ (ls_getD_mem (by omega))))
  exact pl_lt (a := 8) (b := s.length) (fun c => bc_X0_isText_12 h (done0 s.length 0 (by omega) (fun z => by omega))) (fun g2 => bc_X0_isText_12 h (key s.length 0 (by omega) g2 (fun u hu => by omega)))
end CB
