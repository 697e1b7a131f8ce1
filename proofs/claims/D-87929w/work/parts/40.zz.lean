/-! THE MATHEMATICAL STATE: trees, next name, tape, written, prices, findings, pairs, acts, sizes mapped, clashes, merged -/
abbrev zz : Type := (Nat → tr_) × Nat × List Nat × List Nat × (Nat → Nat) × (Nat → Int32) × List (Nat × Nat) × List (Nat × Nat × Nat) × Nat × List (Int32 × Nat) × Nat
abbrev zt (z : zz) : Nat → tr_ := z.1
abbrev zN (z : zz) : Nat := z.2.1
abbrev zp (z : zz) : List Nat := z.2.2.1
abbrev zw (z : zz) : List Nat := z.2.2.2.1
abbrev zc (z : zz) : Nat → Nat := z.2.2.2.2.1
abbrev zf (z : zz) : Nat → Int32 := z.2.2.2.2.2.1
abbrev zq (z : zz) : List (Nat × Nat) := z.2.2.2.2.2.2.1
abbrev za (z : zz) : List (Nat × Nat × Nat) := z.2.2.2.2.2.2.2.1
abbrev zm (z : zz) : Nat := z.2.2.2.2.2.2.2.2.1
abbrev zx (z : zz) : List (Int32 × Nat) := z.2.2.2.2.2.2.2.2.2.1
abbrev zg (z : zz) : Nat := z.2.2.2.2.2.2.2.2.2.2
/-- a finding is counted -/
def z_f (z : zz) (f : Nat) : zz := (zt z, zN z, zp z, zw z, zc z, fun i => if i = f then zf z f + 1 else zf z i, zq z, za z, zm z, zx z, zg z)
def z_t (z : zz) (p : Nat) (t : tr_) : zz := (fun i => if i = p then t else zt z i, zN z, zp z, zw z, zc z, zf z, zq z, za z, zm z, zx z, zg z)
def z_N (z : zz) (n : Nat) : zz := (zt z, n, zp z, zw z, zc z, zf z, zq z, za z, zm z, zx z, zg z)
def z_p (z : zz) (a : List Nat) : zz := (zt z, zN z, a, zw z, zc z, zf z, zq z, za z, zm z, zx z, zg z)
def z_w (z : zz) (a : List Nat) : zz := (zt z, zN z, zp z, a, zc z, zf z, zq z, za z, zm z, zx z, zg z)
def z_c (z : zz) (i v : Nat) : zz := (zt z, zN z, zp z, zw z, fun j => if j = i then v else zc z j, zf z, zq z, za z, zm z, zx z, zg z)
def z_m (z : zz) (a : List (Nat × Nat)) (b : List (Nat × Nat × Nat)) (s : Nat) : zz := (zt z, zN z, zp z, zw z, zc z, zf z, a, b, s, zx z, zg z)
def z_x (z : zz) (a : List (Int32 × Nat)) (g : Nat) : zz := (zt z, zN z, zp z, zw z, zc z, zf z, zq z, za z, zm z, a, g)
/-- a row of a tree in a place -/
def rw_in (N : Nat) (r : rw_) : Prop := rw_a r < N ∧ rw_k r ≤ 3 ∧ rw_d r < 12 ∧ 0 < (rw_l r).length ∧ (rw_l r).length ≤ 6 ∧ (∀ c ∈ rw_l r, sg_l c) ∧ (rw_t r).length ≤ 8 ∧ ∀ c ∈ rw_t r, sg_s c
theorem rw_in.ok {N : Nat} {r : rw_} (h : rw_in N r) (hN : N ≤ 100000) : rw_ok r := ⟨by have := h.1; omega, h.2.1, by have := h.2.2.1; omega, h.2.2.2.2.1, h.2.2.2.2.2.1, h.2.2.2.2.2.2⟩
def tr_ok (N : Nat) (t : tr_) : Prop := dl_ok (tr_d t) (tr_n t) ∧ tr_n t ≤ 30 ∧ (∀ i, i < tr_n t → rw_in N (tr_r t i)) ∧ (∀ i j, i < tr_n t → j < tr_n t → tr_a t i = tr_a t j → i = j) ∧ (∀ i, i < tr_n t → tr_k t i = 3 → dl_en (tr_d t) (tr_n t) i = i + 1) ∧ ¬ tr_tw t
theorem tr_ok.sm {N : Nat} {t : tr_} (h : tr_ok N t) : tr_sm t := ⟨h.2.1, fun k hk => (h.2.2.1 k hk).2.2.1⟩
theorem rw_in.mono {N M : Nat} {r : rw_} (h : rw_in N r) (k : N ≤ M) : rw_in M r := ⟨by have := h.1; omega, h.2⟩
theorem tr_ok.mono {N M : Nat} {t : tr_} (h : tr_ok N t) (k : N ≤ M) : tr_ok M t := ⟨h.1, h.2.1, fun i hi => (h.2.2.1 i hi).mono k, h.2.2.2⟩
/-- what holds behind c calls -/
def zok (c : Nat) (z : zz) : Prop := (∀ p, p < 8 → tr_n (zt z p) = 0 ∨ tr_ok (zN z) (zt z p)) ∧ zN z ≤ 30 * c ∧ (zp z).length ≤ 400 ∧ (∀ x ∈ zp z, x < 256) ∧ (zw z).length ≤ 600 ∧ (∀ x ∈ zw z, x < 128) ∧ (∀ a, a < 4 → zc z a ≤ 1000) ∧ (zq z).length ≤ 30 ∧ (za z).length ≤ 120 ∧ zm z ≤ 60 ∧ (zx z).length ≤ 121 ∧ zg z ≤ 30
theorem zok.up {c : Nat} {z : zz} (h : zok c z) : zok (c + 1) z := ⟨h.1, by have := h.2.1; omega, h.2.2⟩
theorem zok.f {c : Nat} {z : zz} (h : zok c z) (f : Nat) : zok c (z_f z f) := h
theorem zok.t {c : Nat} {z : zz} (h : zok c z) {p : Nat} (hp : p < 8) (n0 : tr_n (zt z p) ≠ 0) : tr_ok (zN z) (zt z p) := (h.1 p hp).resolve_left n0
/-! the model's cells hold it -/
def mP (X : gm_X) (z : zz) : Prop := ∀ p, p < 8 → ma_mp X p (zt z p)
def mN (X : gm_X) (z : zz) : Prop := X.1 2 = nI (zN z)
def mW (X : gm_X) (z : zz) : Prop := X.1 6 = nI (zw z).length ∧ ∀ j, j < (zw z).length → X.2 5 j = nI ((zw z).getD j 0)
def mC (X : gm_X) (z : zz) : Prop := ∀ a, a < 4 → X.2 7 a = nI (zc z a)
def mF (X : gm_X) (z : zz) : Prop := ∀ f, f < 10 → X.2 8 f = zf z f
def mQ (X : gm_X) (z : zz) : Prop := X.1 20 = nI (zq z).length ∧ ∀ j, j < (zq z).length → X.2 23 j = nI ((zq z).getD j (0, 0)).1 ∧ X.2 24 j = nI ((zq z).getD j (0, 0)).2
def mA (X : gm_X) (z : zz) : Prop := X.1 21 = nI (za z).length ∧ ∀ j, j < (za z).length → X.2 25 j = nI ((za z).getD j (0, 0, 0)).1 ∧ X.2 26 j = nI ((za z).getD j (0, 0, 0)).2.1 ∧ X.2 27 j = nI ((za z).getD j (0, 0, 0)).2.2
def mM (X : gm_X) (z : zz) : Prop := (zm z = 0 → X.1 22 = -1) ∧ (zm z ≠ 0 → X.1 22 = nI (zm z))
def mX (X : gm_X) (z : zz) : Prop := X.1 31 = nI (zx z).length ∧ ∀ j, j < (zx z).length → X.2 29 j = ((zx z).getD j (0, 0)).1 ∧ X.2 30 j = nI ((zx z).getD j (0, 0)).2
def mG (X : gm_X) (z : zz) : Prop := X.1 32 = nI (zg z)
def MS (X : gm_X) (z : zz) : Prop := mP X z ∧ mN X z ∧ ma_tape X (zp z) ∧ mW X z ∧ mC X z ∧ mF X z ∧ mQ X z ∧ mA X z ∧ mM X z ∧ mX X z ∧ mG X z
/-- what the state needs is as it was -/
def ms_fr (X X' : gm_X) : Prop := (∀ f, f ∈ [2, 4, 6, 20, 21, 22, 31, 32] → X'.1 f = X.1 f) ∧ (∀ a, a ∈ [3, 5, 7, 8, 23, 24, 25, 26, 27, 29, 30] → X'.2 a = X.2 a) ∧ (∀ p, p < 8 → X'.2 1 p = X.2 1 p) ∧ ∀ p i w, p < 8 → i < 30 → w < 19 → ma_nd X' p i w = ma_nd X p i w
theorem ms_fr.trans {X Y W : gm_X} (h : ms_fr X Y) (k : ms_fr Y W) : ms_fr X W := ⟨fun f hf => (k.1 f hf).trans (h.1 f hf), fun a ha => (k.2.1 a ha).trans (h.2.1 a ha), fun p hp => (k.2.2.1 p hp).trans (h.2.2.1 p hp), fun p i w hp hi hw => (k.2.2.2 p i w hp hi hw).trans (h.2.2.2 p i w hp hi hw)⟩
theorem ms_fr.refl (X : gm_X) : ms_fr X X := ⟨fun _ _ => rfl, fun _ _ => rfl, fun _ _ => rfl, fun _ _ _ _ _ _ => rfl⟩
theorem MS.fr {X X' : gm_X} {z : zz} (h : MS X z) (k : ms_fr X X') : MS X' z := by
  obtain ⟨k1, k2, k3, k4⟩ := k
  obtain ⟨h1, h2, h3, h4, h5, h6, h7, h8, h9, h10, h11⟩ := h
  refine ⟨fun p hp => ?_, ?_, ?_, ?_, ?_, ?_, ?_, ?_, ?_, ?_, ?_⟩
  · have := h1 p hp
    exact ⟨this.1, by rw [k3 p hp]; exact this.2.1, this.2.2.1, fun i hi => ⟨(this.2.2.2 i hi).1.of (this.2.2.2 i hi).2 (fun u hu => k4 p i u hp (by have := this.2.2.1; omega) hu), (this.2.2.2 i hi).2⟩⟩
  · unfold mN; rw [k1 2 (by decide)]; exact h2
  · unfold ma_tape; rw [k1 4 (by decide), k2 3 (by decide)]; exact h3
  · unfold mW; rw [k1 6 (by decide), k2 5 (by decide)]; exact h4
  · unfold mC; rw [k2 7 (by decide)]; exact h5
  · unfold mF; rw [k2 8 (by decide)]; exact h6
  · unfold mQ; rw [k1 20 (by decide), k2 23 (by decide), k2 24 (by decide)]; exact h7
  · unfold mA; rw [k1 21 (by decide), k2 25 (by decide), k2 26 (by decide), k2 27 (by decide)]; exact h8
  · unfold mM; rw [k1 22 (by decide)]; exact h9
  · unfold mX; rw [k1 31 (by decide), k2 29 (by decide), k2 30 (by decide)]; exact h10
  · unfold mG; rw [k1 32 (by decide)]; exact h11
theorem MS.found {X : gm_X} {z : zz} (h : MS X z) {f : Nat} (hf : f < 10) : MS (gm_pA X 8 f (X.2 8 f + 1)) (z_f z f) := by
  obtain ⟨h1, h2, h3, h4, h5, h6, h7, h8, h9, h10, h11⟩ := h
  have e : ∀ b, b ≠ 8 → (gm_pA X 8 f (X.2 8 f + 1)).2 b = X.2 b := fun b hb => ma_pA_ne hb
  refine ⟨fun p hp => ?_, h2, ?_, ?_, ?_, fun g hg => ?_, ?_, ?_, h9, ?_, h11⟩
  · have := h1 p hp
    unfold ma_mp ma_mr ma_ml ma_nd
    rw [e 0 (by decide), e 1 (by decide)]; exact this
  · unfold ma_tape; rw [e 3 (by decide)]; exact h3
  · unfold mW; rw [e 5 (by decide)]; exact h4
  · unfold mC; rw [e 7 (by decide)]; exact h5
  · rw [ma_pA_at]
    show _ = if g = f then zf z f + 1 else zf z g
    by_cases c : g = f
    · rw [if_pos c, if_pos c, h6 f hf]
    · rw [if_neg c, if_neg c, h6 g hg]
  · unfold mQ; rw [e 23 (by decide), e 24 (by decide)]; exact h7
  · unfold mA; rw [e 25 (by decide), e 26 (by decide), e 27 (by decide)]; exact h8
  · unfold mX; rw [e 29 (by decide), e 30 (by decide)]; exact h10
/-! the specifications: what a call answers, and the state behind it, as what they ask for -/
abbrev zP : Type := Int32 → zz → Prop
def sp_pl (p : Int32) (k : Nat → Prop) (e : Prop) : Prop := (∀ q : Nat, q < 8 → p = nI q → k q) ∧ ((p < 0 ∨ nI 8 ≤ p) → e)
/-- a finding: its answer, its number -/
def sp_f (z : zz) (Q : zP) (f : Nat) : Prop := Q (-nI f) (z_f z f)
def sp_tree (p : Int32) (z : zz) (Q : zP) (k : Nat → Prop) : Prop := sp_pl p (fun q => (tr_n (zt z q) = 0 → sp_f z Q 2) ∧ (tr_n (zt z q) ≠ 0 → k q)) (sp_f z Q 1)
/-- one of n things -/
def sp_ix (i : Int32) (n : Nat) (k : Nat → Prop) (e : Prop) : Prop := (∀ j : Nat, j < n → i = nI j → k j) ∧ ((∀ j : Nat, j < n → i ≠ nI j) → e)
def sp_size (p : Int32) (z : zz) (Q : zP) : Prop := sp_tree p z Q (fun q => Q (nI (tr_n (zt z q))) z)
def sp_letter (i : Int32) (z : zz) (Q : zP) : Prop := sp_ix i (zw z).length (fun j => Q (nI ((zw z).getD j 0)) z) (Q (-1) z)
def sp_copy (p q : Int32) (z : zz) (Q : zP) : Prop := sp_tree p z Q (fun p' => sp_pl q (fun q' => Q (nI (tr_n (zt z p'))) (z_t z q' (zt z p'))) (sp_f z Q 1))
/-- no tree -/
def tr_0 : tr_ := (0, fun _ => (0, 0, 0, [], []))
def sp_clear (p : Int32) (z : zz) (Q : zP) : Prop := sp_pl p (fun q => (tr_n (zt z q) = 0 → Q 0 (z_t z q tr_0)) ∧ (tr_n (zt z q) ≠ 0 → Q 1 (z_t z q tr_0))) (sp_f z Q 1)
def sp_price (a v : Int32) (z : zz) (Q : zP) : Prop := sp_ix a 4 (fun i => sp_ix v 1001 (fun w => Q (nI (zc z i)) (z_c z i w)) (sp_f z Q 1)) (sp_f z Q 1)
def sp_pair (i w : Int32) (z : zz) (Q : zP) : Prop := sp_ix i (zq z).length (fun j => (w = 0 → Q (nI ((zq z).getD j (0, 0)).1) z) ∧ (w = 1 → Q (nI ((zq z).getD j (0, 0)).2) z) ∧ (w ≠ 0 → w ≠ 1 → sp_f z Q 1)) (sp_f z Q 6)
def sp_acts (z : zz) (Q : zP) : Prop := Q (nI (za z).length) z
def sp_act (i w : Int32) (z : zz) (Q : zP) : Prop := sp_ix i (za z).length (fun j => (w = 0 → Q (nI ((za z).getD j (0, 0, 0)).1) z) ∧ (w = 1 → Q (nI ((za z).getD j (0, 0, 0)).2.1) z) ∧ (w = 2 → Q (nI ((za z).getD j (0, 0, 0)).2.2) z) ∧ (w ≠ 0 → w ≠ 1 → w ≠ 2 → sp_f z Q 1)) (sp_f z Q 6)
def sp_like (z : zz) (Q : zP) : Prop := (zm z = 0 → sp_f z Q 6) ∧ (zm z ≠ 0 → Q (200 * nI (zq z).length / nI (zm z)) z)
def sp_merged (z : zz) (Q : zP) : Prop := Q (nI (zg z)) z
def sp_clash (i w : Int32) (z : zz) (Q : zP) : Prop := sp_ix i (zx z).length (fun j => (w = 0 → Q ((zx z).getD j (0, 0)).1 z) ∧ (w = 1 → Q (nI ((zx z).getD j (0, 0)).2) z) ∧ (w ≠ 0 → w ≠ 1 → sp_f z Q 1)) (sp_f z Q 6)
def sp_found (x : Int32) (z : zz) (Q : zP) : Prop := (∀ f : Nat, ((1 ≤ f ∧ f ≤ 7) ∨ f = 9) → x = -nI f → Q (zf z f) z) ∧ ((∀ f : Nat, ((1 ≤ f ∧ f ≤ 7) ∨ f = 9) → x ≠ -nI f) → sp_f z Q 1)
