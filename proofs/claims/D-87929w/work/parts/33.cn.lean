/-! nodes: their small methods -/
theorem cN.s803 {θ : gc_T} {σ : gc_S} {ow : Nat → Nat} {L : Nat → Prop} {a v : Nat} {x : Option Nat} {r : rw_} {ch : List Nat} (h : cN θ σ ow L a r ch) : cN θ (gc_sR σ 803 v x) ow L a r ch := by
  obtain ⟨h1, h2, h3, h4, h5, ⟨b1, h6, h7⟩, ⟨b2, h8, h9⟩, c, h10, g1, g2, g3, r', g4, g5⟩ := h
  exact ⟨h1, h2, h3, h4, h5, ⟨b1, by rw [rd_R_sR, if_neg (by simp)]; exact h6, h7⟩, ⟨b2, by rw [rd_R_sR, if_neg (by simp)]; exact h8, h9⟩, c, by rw [rd_R_sR, if_neg (by simp)]; exact h10, g1, g2, g3, r', by rw [rd_R_sR, if_neg (by simp)]; exact g4, g5⟩
/-- rows of the nodes' own int fields, 805 .. 808, don't touch what a node is -/
theorem cN.sI {θ : gc_T} {σ : gc_S} {ow : Nat → Nat} {L : Nat → Prop} {a v f : Nat} {x : Int32} {r : rw_} {ch : List Nat} (h : cN θ σ ow L a r ch) (hf : f ≠ 800 ∧ f ≠ 1202) : cN θ (gc_sI σ f v x) ow L a r ch := by
  obtain ⟨h1, h2, h3, h4, h5, ⟨b1, h6, h7⟩, ⟨b2, h8, h9⟩, c, h10, g1, g2, g3, r', g4, g5⟩ := h
  exact ⟨h1, h2, h3, h4, by rw [rd_I_sI, if_neg (fun z => hf.1 z.1.symm)]; exact h5, ⟨b1, h6, h7⟩, ⟨b2, h8, h9⟩, c, h10, g1, g2, by rw [rd_I_sI, if_neg (fun z => hf.2 z.1.symm)]; exact g3, r', g4, g5⟩
section CN
variable {θ : gc_T} {P : Int32 → gc_S → Prop} {V : gc_S → Prop} {R : Option Nat → gc_S → Prop} {σ : gc_S} {n cc ss : Nat}
theorem kc_kind {a : Nat} (h : gc_isN σ a) (k : P (nI (gc_k σ a - 8)) σ) (hn : 2 ≤ n := by omega) : vC_kind θ n σ a [] (gc_Pi P) := by
  obtain ⟨n, rfl⟩ : ∃ k, n = k + 2 := ⟨n - 2, by omega⟩
  refine ⟨fun e => ?_, fun e => ?_, fun e => ?_, fun e => ?_⟩
  · rw [e] at k; exact ec_X10_kind (fun K h => bc_X10_kind_0 h k)
  · rw [e] at k; exact ec_X11_kind (fun K h' => bc_X11_kind_0 h' ⟨⟨h.1, Or.inl e⟩, ec_X10_kind (fun K h => bc_X10_kind_0 h k)⟩)
  · rw [e] at k; exact ec_X12_kind (fun K h' => bc_X12_kind_0 h' ⟨⟨h.1, e⟩, ec_X11_kind (fun K h' => bc_X11_kind_0 h' ⟨⟨h.1, Or.inr e⟩, ec_X10_kind (fun K h => bc_X10_kind_0 h k)⟩)⟩)
  · rw [e] at k; exact ec_X13_kind (fun K h => bc_X13_kind_0 h k)
theorem kc_bears {a : Nat} (k1 : gc_k σ a ≠ 11 → P 1 σ) (k0 : gc_k σ a = 11 → P 0 σ) : vC_bears θ n σ a [] (gc_Pi P) := by
  refine ⟨fun e => ?_, fun e => ?_, fun e => ?_, fun e => ?_⟩
  · exact ec_X9_bears (fun K h => bc_X9_bears_0 h (k1 (by omega)))
  · exact ec_X9_bears (fun K h => bc_X9_bears_0 h (k1 (by omega)))
  · exact ec_X9_bears (fun K h => bc_X9_bears_0 h (k1 (by omega)))
  · exact ec_X13_bears (fun K h => bc_X13_bears_0 h (k0 e))
theorem kc_isOrdered {a : Nat} (k1 : gc_k σ a = 8 ∨ gc_k σ a = 11 → P 1 σ) (k0 : gc_k σ a = 9 ∨ gc_k σ a = 10 → P 0 σ) : vC_isOrdered θ n σ a [] (gc_Pi P) := by
  refine ⟨fun e => ?_, fun e => ?_, fun e => ?_, fun e => ?_⟩
  · exact ec_X9_isOrdered (fun K h => bc_X9_isOrdered_0 h (k1 (Or.inl e)))
  · exact ec_X11_isOrdered (fun K h => bc_X11_isOrdered_0 h (k0 (Or.inl e)))
  · exact ec_X11_isOrdered (fun K h => bc_X11_isOrdered_0 h (k0 (Or.inr e)))
  · exact ec_X9_isOrdered (fun K h => bc_X9_isOrdered_0 h (k1 (Or.inr e)))
theorem rw_ok.l {r : rw_} (h : rw_ok r) : (rw_l r).length < 2 ^ 31 ∧ ∀ c ∈ rw_l r, c < 256 := ⟨by have := h.2.2.2.1; omega, fun c hc => (h.2.2.2.2.1 c hc).lt⟩
theorem rw_ok.t {r : rw_} (h : rw_ok r) : (rw_t r).length < 2 ^ 31 ∧ ∀ c ∈ rw_t r, c < 256 := ⟨by have := h.2.2.2.2.2.1; omega, fun c hc => (h.2.2.2.2.2.2 c hc).lt⟩
/-- of one kind; Whole ones are to be alike in label and text -/
def rw_fit (r s : rw_) : Prop := rw_k r = rw_k s ∧ (rw_k r = 3 → rw_l r = rw_l s ∧ rw_t r = rw_t s)
theorem kc_fits {ow : Nat → Nat} {L : Nat → Prop} {a b : Nat} {r s : rw_} {ch dh : List Nat} (ha : cN θ σ ow L a r ch) (hb : cN θ σ ow L b s dh) (oa : rw_ok r) (ob : rw_ok s) (k1 : rw_fit r s → P 1 σ) (k0 : ¬ rw_fit r s → P 0 σ) (hn : 4 ≤ n := by omega) : vC_fits θ n σ a [.ref b] (gc_Pi P) := by
  obtain ⟨n, rfl⟩ : ∃ k, n = k + 1 := ⟨n - 1, by omega⟩
  have ka := ha.2.2.1; have kb := hb.2.2.1; have ra := ha.2.2.2.1; have rb := hb.2.2.2.1
  have base : ∀ {Q : Int32 → gc_S → Prop} {n : Nat}, 3 ≤ n → (rw_k r = rw_k s → Q 1 σ) → (rw_k r ≠ rw_k s → Q 0 σ) → gx_C (gc_O θ) (nX9_fits n) [.ref a, .ref b] σ (gc_Pi Q) := by
    intro Q n hn q1 q0
    obtain ⟨n, rfl⟩ : ∃ k, n = k + 1 := ⟨n - 1, by omega⟩
    refine ec_X9_fits (x1 := some b) (fun K h => bc_X9_fits_0 h ⟨ha.isN, kc_kind ha.isN ⟨b, rfl, hb.isN, kc_kind hb.isN ?_⟩⟩)
    refine pl_eq (fun e => q1 (by omega)) (fun e => q0 (by omega))
  have np : gc_k σ a ≠ 11 → gx_C (gc_O θ) (nX9_fits (n + 1)) [.ref a, .ref b] σ (gc_Pi P) := fun z => base (by omega) (fun e => k1 ⟨e, fun q => by omega⟩) (fun e => k0 (fun q => e q.1))
  refine ⟨fun e => np (by omega), fun e => np (by omega), fun e => np (by omega), fun e => ?_⟩
  obtain ⟨_, _, _, _, _, ⟨b1, h6, h7⟩, ⟨b2, h8, h9⟩, _⟩ := ha
  obtain ⟨_, _, _, _, _, ⟨c1, g6, g7⟩, ⟨c2, g8, g9⟩, _⟩ := id hb
  refine ec_X13_fits (x1 := some b) (fun K h => bc_X13_fits_0 h ⟨⟨by assumption, e⟩, base (by omega) (fun e1 => ⟨fun q => absurd q (by decide), fun _ => ⟨⟨by assumption, e⟩, b, rfl, hb.isN, ?_⟩⟩) (fun e1 => ⟨fun _ => bc_X13_fits_40 h (k0 (fun q => e1 q.1)), fun q => absurd rfl q⟩)⟩)
  rw [h6, g6]
  refine kc_isSame h7 g7 oa.l.1 ob.l.1 oa.l.2 ob.l.2 (fun e2 => ⟨fun q => absurd q (by decide), fun _ => ⟨⟨by assumption, e⟩, hb.isN, ?_⟩⟩) (fun e2 => ⟨fun _ => bc_X13_fits_40 h (k0 (fun q => e2 (q.2 (by omega)).1)), fun q => absurd rfl q⟩)
  rw [h8, g8]
  exact kc_isSame h9 g9 oa.t.1 ob.t.1 oa.t.2 ob.t.2 (fun e3 => ⟨fun q => absurd q (by decide), fun _ => k1 ⟨e1, fun _ => ⟨e2, e3⟩⟩⟩) (fun e3 => ⟨fun _ => bc_X13_fits_40 h (k0 (fun q => e3 (q.2 (by omega)).2)), fun q => absurd rfl q⟩)
/-- two children of one label -/
def ls_tw (m : Nat) (l : Nat → List Nat) : Prop := ∃ j k, j < k ∧ k < m ∧ l k = l j
theorem kc_clashes {ow : Nat → Nat} {L : Nat → Prop} {a : Nat} {r : rw_} {ch : List Nat} {l : Nat → List Nat} (ha : cN θ σ ow L a r ch) (hl : ∀ j, j < ch.length → gc_isN σ (ch.getD j 0) ∧ (∃ b, gc_R σ 801 (ch.getD j 0) = some b ∧ cB θ σ L b (l j)) ∧ (l j).length ≤ 6 ∧ ∀ c ∈ l j, c < 256)
    (k1 : rw_k r = 2 → ls_tw ch.length l → P 1 σ) (k0 : ¬ (rw_k r = 2 ∧ ls_tw ch.length l) → P 0 σ) (hn : 4 ≤ n := by omega) : vC_clashes θ n σ a [] (gc_Pi P) := by
  obtain ⟨n, rfl⟩ : ∃ k, n = k + 1 := ⟨n - 1, by omega⟩
  have ka := ha.2.2.1
  have np : gc_k σ a ≠ 10 → gx_C (gc_O θ) (nX9_clashes (n + 1)) [.ref a] σ (gc_Pi P) := fun z => ec_X9_clashes (fun K h => bc_X9_clashes_0 h (k0 (fun q => by omega)))
  refine ⟨fun e => np (by omega), fun e => np (by omega), fun e => ?_, fun e => np (by omega)⟩
  have hk2 : rw_k r = 2 := by omega
  obtain ⟨_, h2, _, _, _, _, _, c, h10, h11⟩ := ha
  have hlen := h11.len
  refine ec_X12_clashes (fun K h => bc_X12_clashes_0 h ?_)
  have key : ∀ m x, x + m = ch.length → (∀ j k, j < k → k < x → l k ≠ l j) → gc_G θ K (nX12_clashes (n + 1)) (gc_Pi P) 2 [(0, va_rf (some a)), (1, .int (nI x))] [] σ 0 0 := by
    intro m
    induction m with
    | zero =>
      intro x hx hu
      refine bc_X12_clashes_2 h ⟨⟨h2, e⟩, c, h10, h11.2.1, kc_size h11 (pl_le (fun _ => ⟨⟨h2, e⟩, ec_X9_clashes (fun K h => bc_X9_clashes_0 h ⟨rfl, k0 (fun q => ?_)⟩)⟩) (fun c => by omega))⟩
      obtain ⟨j, k, q1, q2, q3⟩ := q.2
      exact hu j k q1 (by omega) q3
    | succ m ih =>
      intro x hx hu
      refine bc_X12_clashes_2 h ⟨⟨h2, e⟩, c, h10, h11.2.1, kc_size h11 (pl_le (fun c => by omega) (fun _ => ?_))⟩
      have key2 : ∀ m y, y + m = x → (∀ j, j < y → l x ≠ l j) → gc_G θ K (nX12_clashes (n + 1)) (gc_Pi P) 15 [(0, va_rf (some a)), (1, .int (nI x)), (2, .int (nI y))] [] σ 0 0 := by
        intro m
        induction m with
        | zero =>
          intro y hy hu2
          refine bc_X12_clashes_15 h (pl_le (fun _ => ?_) (fun c => by omega))
          rw [nI_1]
          refine ih (x + 1) (by omega) (fun j k j1 j2 => ?_)
          by_cases z : k = x
          · rw [z]; exact hu2 j (by omega)
          · exact hu j k j1 (by omega)
        | succ m ih2 =>
          intro y hy hu2
          obtain ⟨x1, ⟨bx, x2, x3⟩, x4, x5⟩ := hl x (by omega)
          obtain ⟨y1, ⟨by', y2, y3⟩, y4, y5⟩ := hl y (by omega)
          refine bc_X12_clashes_15 h (pl_le (fun c => by omega) (fun _ => ⟨⟨h2, e⟩, c, h10, h11.2.1, kc_get h11 x (by omega) ⟨fun q hq => by obtain rfl := Option.some.inj hq; exact x1, _, rfl, x1, ⟨h2, e⟩, c, h10, h11.2.1, kc_get h11 y (by omega) ⟨fun q hq => by obtain rfl := Option.some.inj hq; exact y1, _, rfl, y1, ?_⟩⟩⟩))
          rw [x2, y2]
          refine kc_isSame x3 y3 (by omega) (by omega) x5 y5 (fun e2 => ⟨fun q => absurd q (by decide), fun _ => k1 hk2 ⟨y, x, by omega, by omega, e2⟩⟩) (fun e2 => ⟨fun _ => ?_, fun q => absurd rfl q⟩)
          rw [nI_1]
          refine ih2 (y + 1) (by omega) (fun j hj => ?_)
          by_cases z : j = y
          · rw [z]; exact e2
          · exact hu2 j (by omega)
      exact key2 x 0 (by omega) (fun j hj => by omega)
  exact key ch.length 0 (by omega) (fun j k _ hk => by omega)
end CN
