/-! THE COMPONENT's CELLS HOLD THE MATHEMATICAL STATE -/
/-- the lasting cells by their roles: 0 the mender 1 finding 2 found 3 trees 4 tape 5 reader 6 pen 7 its row 8 mapper 9 prices 10 under 11 table 12 mates 13 paired 14 kinds 15 its rows 16 merger 17 names 18 clashNames 19 clashKinds 20 made 21 pairOne 22 pairTwo 23 actKinds 24 actNames 25 actPrices, 30 .. 59 rows of under, 60 .. 90 rows of table -/
def gk : Nat → Nat
  | 0 => 0 | 1 => 1 | 3 => 19 | 4 => 15 | 5 => 2 | 6 => 3 | 7 => 15 | 8 => 4 | 10 => 17 | 11 => 17 | 12 => 18 | 13 => 16 | 14 => 5 | 15 => 17 | 16 => 6 | 17 => 12 | 20 => 12 | _ => 14
def gl (i : Nat) : Nat := if 60 ≤ i then 31 else if 30 ≤ i then 30 else match i with
  | 2 => 10 | 3 => 8 | 4 => 400 | 7 => 800 | 9 => 4 | 10 => 30 | 11 => 31 | 12 => 30 | 13 => 30 | 15 => 60 | 18 => 362 | 19 => 362 | 21 => 30 | 22 => 30 | 23 => 120 | 24 => 120 | 25 => 120 | _ => 0
def role (i : Nat) : Prop := i < 26 ∨ (30 ≤ i ∧ i < 91)
def lk : List (Nat × Nat × Nat) := [(0, 0, 1), (1, 0, 2), (2, 0, 3), (4, 0, 4), (6, 0, 5), (7, 0, 6), (8, 0, 8), (9, 0, 14), (10, 0, 16), (15, 0, 21), (16, 0, 22), (18, 0, 23), (19, 0, 24), (20, 0, 25), (200, 5, 1), (300, 6, 7), (400, 8, 9), (403, 8, 10), (404, 8, 11), (405, 8, 12), (406, 8, 13), (500, 14, 15), (600, 16, 17), (601, 16, 18), (602, 16, 19), (607, 16, 20)]
theorem lk_ok : ∀ x ∈ lk, x.1 ∉ [201, 401, 402, 604, 605, 606] ∧ x.2.1 < 26 := by decide
def cG (σ : gc_S) (g : Nat → Nat) : Prop := (∀ i, role i → gc_is σ (g i) (gk i) ∧ (14 ≤ gk i → gc_n σ (g i) = gl i)) ∧ (∀ x ∈ lk, gc_R σ x.1 (g x.2.1) = some (g x.2.2)) ∧ (∀ i, i < 30 → gc_Q σ (g 10) i = some (g (30 + i))) ∧ (∀ i, i < 31 → gc_Q σ (g 11) i = some (g (60 + i))) ∧ ∀ i j, role i → role j → g i = g j → i = j
def fA (σ : gc_S) (g : Nat → Nat) (z : zz) : Prop := gc_I σ 3 (g 0) = nI (zN z) ∧ gc_I σ 5 (g 0) = nI (zp z).length ∧ ∀ j, j < (zp z).length → gc_E σ (g 4) j = sb_b ((zp z).getD j 0)
def fW (σ : gc_S) (g : Nat → Nat) (z : zz) : Prop := gc_I σ 301 (g 6) = nI (zw z).length ∧ ∀ j, j < (zw z).length → gc_E σ (g 7) j = nI ((zw z).getD j 0)
def fC (σ : gc_S) (g : Nat → Nat) (z : zz) : Prop := ∀ a, a < 4 → gc_E σ (g 9) a = nI (zc z a)
def fF (σ : gc_S) (g : Nat → Nat) (z : zz) : Prop := ∀ f, f < 10 → gc_E σ (g 2) f = zf z f
def fQ (σ : gc_S) (g : Nat → Nat) (z : zz) : Prop := gc_I σ 13 (g 0) = nI (zq z).length ∧ ∀ j, j < (zq z).length → gc_E σ (g 21) j = nI ((zq z).getD j (0, 0)).1 ∧ gc_E σ (g 22) j = nI ((zq z).getD j (0, 0)).2
def fD (σ : gc_S) (g : Nat → Nat) (z : zz) : Prop := gc_I σ 17 (g 0) = nI (za z).length ∧ ∀ j, j < (za z).length → gc_E σ (g 23) j = nI ((za z).getD j (0, 0, 0)).1 ∧ gc_E σ (g 24) j = nI ((za z).getD j (0, 0, 0)).2.1 ∧ gc_E σ (g 25) j = nI ((za z).getD j (0, 0, 0)).2.2
def fM (σ : gc_S) (g : Nat → Nat) (z : zz) : Prop := (zm z = 0 → gc_I σ 12 (g 0) = 0) ∧ (zm z ≠ 0 → gc_I σ 12 (g 0) = 1 ∧ gc_I σ 14 (g 0) = nI (zm z))
def fX (σ : gc_S) (g : Nat → Nat) (z : zz) : Prop := gc_I σ 603 (g 16) = nI (zx z).length ∧ ∀ j, j < (zx z).length → gc_E σ (g 18) j = ((zx z).getD j (0, 0)).1 ∧ gc_E σ (g 19) j = nI ((zx z).getD j (0, 0)).2
def fG (σ : gc_S) (g : Nat → Nat) (z : zz) : Prop := gc_I σ 11 (g 0) = nI (zg z)
def cF (σ : gc_S) (g : Nat → Nat) (z : zz) : Prop := fA σ g z ∧ fW σ g z ∧ fC σ g z ∧ fF σ g z ∧ fQ σ g z ∧ fD σ g z ∧ fM σ g z ∧ fX σ g z ∧ fG σ g z
/-- rows of labels and texts: not the tape, not what is written -/
def cLg (g : Nat → Nat) (q : Nat) : Prop := q ≠ g 4 ∧ q ≠ g 7
def cTs (θ : gc_T) (σ : gc_S) (g : Nat → Nat) (ow TR : Nat → Nat) (A : Nat → Nat → Nat) (z : zz) : Prop := (∀ p, p < 8 → (tr_n (zt z p) = 0 → gc_Q σ (g 3) p = none) ∧ (tr_n (zt z p) ≠ 0 → gc_Q σ (g 3) p = some (TR p) ∧ cW θ σ ow (cLg g) (TR p) (zt z p) (A p))) ∧ ∀ p q, p < 8 → q < 8 → p ≠ q → tr_n (zt z p) ≠ 0 → tr_n (zt z q) ≠ 0 → TR p ≠ TR q ∧ ∀ i j, i < tr_n (zt z p) → j < tr_n (zt z q) → A p i ≠ A q j
def cLs2 (θ : gc_T) (σ : gc_S) (g ow : Nat → Nat) : Prop := (∃ ch, cL θ σ ow (g 17) (g 17) ch) ∧ ∃ ch, cL θ σ ow (g 20) (g 20) ch
/-- owners: of the lasting cells themselves -/
def cO (σ : gc_S) (g ow : Nat → Nat) : Prop := oc σ ow ∧ ∀ i, role i → ow (g i) = g i
def CSo (θ : gc_T) (g : Nat → Nat) (σ : gc_S) (z : zz) (ow TR : Nat → Nat) (A : Nat → Nat → Nat) : Prop := (gc_n σ (gc_aE θ) = 0 ∧ gc_n σ (gc_aD θ) = 0) ∧ cG σ g ∧ cF σ g z ∧ cO σ g ow ∧ cTs θ σ g ow TR A z ∧ cLs2 θ σ g ow
def CS (θ : gc_T) (g : Nat → Nat) (σ : gc_S) (z : zz) : Prop := ∃ ow TR A, CSo θ g σ z ow TR A
/-- what is only worked in -/
def scr (i : Nat) : Prop := i ∈ [1, 5, 8, 12, 13, 14, 15, 16] ∨ (30 ≤ i ∧ i < 91)
theorem scr.role {i : Nat} (h : scr i) : role i := by
  unfold scr at h
  rcases h with h | h
  · simp only [List.mem_cons, List.not_mem_nil, or_false] at h
    exact Or.inl (by omega)
  · exact Or.inr h
def cq (θ : gc_T) (g : Nat → Nat) (σ σ' : gc_S) : Prop := cx θ (fun q => ∃ i, scr i ∧ q = g i) σ σ' ∧ (∀ f, f ∉ [201, 401, 402, 604, 605, 606] → ∀ i, scr i → gc_R σ' f (g i) = gc_R σ f (g i)) ∧ gc_I σ' 603 (g 16) = gc_I σ 603 (g 16)
theorem cq.refl {θ : gc_T} {g : Nat → Nat} (σ : gc_S) : cq θ g σ σ := ⟨cx.refl σ, fun _ _ _ _ => rfl, rfl⟩
theorem cq.trans {θ : gc_T} {g : Nat → Nat} {σ σ1 σ2 : gc_S} (h : cq θ g σ σ1) (k : cq θ g σ1 σ2) : cq θ g σ σ2 := ⟨h.1.trans' k.1, fun f hf i hi => (k.2.1 f hf i hi).trans (h.2.1 f hf i hi), k.2.2.trans h.2.2⟩
theorem gk_tree : ∀ i, role i → gk i ≠ 7 ∧ ¬ (8 ≤ gk i ∧ gk i ≤ 11) ∧ (gk i = 15 → i = 4 ∨ i = 7) := by
  intro i hi
  rcases hi with hi | hi
  · revert i; decide
  · have : gk i = 14 := by unfold gk; split <;> first | rfl | omega
    rw [this]
    omega
theorem CSo.is {θ : gc_T} {g : Nat → Nat} {σ : gc_S} {z : zz} {ow TR : Nat → Nat} {A : Nat → Nat → Nat} (h : CSo θ g σ z ow TR A) (i : Nat) (hi : role i := by unfold role; omega) : gc_is σ (g i) (gk i) := (h.2.1.1 i hi).1
theorem CSo.n {θ : gc_T} {g : Nat → Nat} {σ : gc_S} {z : zz} {ow TR : Nat → Nat} {A : Nat → Nat → Nat} (h : CSo θ g σ z ow TR A) (i : Nat) (hi : role i := by unfold role; omega) (hk : 14 ≤ gk i := by decide) : gc_n σ (g i) = gl i := (h.2.1.1 i hi).2 hk
theorem CSo.ln {θ : gc_T} {g : Nat → Nat} {σ : gc_S} {z : zz} {ow TR : Nat → Nat} {A : Nat → Nat → Nat} (h : CSo θ g σ z ow TR A) (f i j : Nat) (hm : (f, i, j) ∈ lk := by decide) : gc_R σ f (g i) = some (g j) := h.2.1.2.1 (f, i, j) hm
theorem CSo.ne {θ : gc_T} {g : Nat → Nat} {σ : gc_S} {z : zz} {ow TR : Nat → Nat} {A : Nat → Nat → Nat} (h : CSo θ g σ z ow TR A) {i j : Nat} (hij : i ≠ j) (hi : role i := by unfold role; omega) (hj : role j := by unfold role; omega) : g i ≠ g j := fun e => hij (h.2.1.2.2.2.2 i j hi hj e)
/-- a lasting cell is none of a tree's -/
theorem CSo.tn {θ : gc_T} {g : Nat → Nat} {σ : gc_S} {z : zz} {ow TR : Nat → Nat} {A : Nat → Nat → Nat} (h : CSo θ g σ z ow TR A) {tr : Nat} {t : tr_} {B : Nat → Nat} (hW : cW θ σ ow (cLg g) tr t B) {i : Nat} (hi : role i) : ow (g i) ≠ tr ∧ (∀ j, j < tr_n t → ow (g i) ≠ B j) ∧ (gc_k σ (g i) = 15 → ¬ cLg g (g i)) := by
  have hk := gk_tree i hi
  have hg := (h.2.1.1 i hi).1.2
  rw [h.2.2.2.1.2 i hi]
  refine ⟨fun e => ?_, fun j hj e => ?_, fun e => ?_⟩
  · obtain ⟨_, ⟨ah, bh, ⟨hR, _⟩, _⟩, _⟩ := hW
    have := hR.1.2
    rw [← e, hg] at this
    exact hk.1 this
  · have := (hW.1.2.1 j hj).isN.2
    rw [← e, hg] at this
    exact hk.2.1 this
  · rw [hg] at e
    intro z
    rcases hk.2.2 e with y | y
    · exact z.1 (by rw [y])
    · exact z.2 (by rw [y])
theorem CSo.q {θ : gc_T} {g : Nat → Nat} {σ σ' : gc_S} {z : zz} {ow TR : Nat → Nat} {A : Nat → Nat → Nat} (hθ : cTh θ) (h : CSo θ g σ z ow TR A) (k : cq θ g σ σ') : CSo θ g σ' z (fun x => if x ∈ gc_d σ then ow x else x) TR A := by
  obtain ⟨kx, kR, kI⟩ := k
  have hw : ∀ q, q ∈ gc_d σ → (fun x => if x ∈ gc_d σ then ow x else x) q = ow q := fun q hq => if_pos hq
  have sS : ∀ i, role i → ¬ scr i → cs_ σ σ' (g i) := fun i hi hs => kx.2.2.2 (g i) (Or.inl (h.2.1.1 i hi).1.1) (fun ⟨j, j1, j2⟩ => hs (by rw [h.2.1.2.2.2.2 i j hi j1.role j2]; exact j1))
  have nn : ∀ i, i ∉ [1, 5, 8, 12, 13, 14, 15, 16] → i < 26 → cs_ σ σ' (g i) := fun i h1 h2 => sS i (Or.inl h2) (fun z => z.elim h1 (fun y => by omega))
  have E : ∀ i, i ∉ [1, 5, 8, 12, 13, 14, 15, 16] → i < 26 → gc_E σ' (g i) = gc_E σ (g i) := fun i h1 h2 => (nn i h1 h2).2.2.1
  have I : ∀ f i, i ∉ [1, 5, 8, 12, 13, 14, 15, 16] → i < 26 → f ≠ 809 → gc_I σ' f (g i) = gc_I σ f (g i) := fun f i h1 h2 h3 => (nn i h1 h2).2.2.2.2.1 f h3
  obtain ⟨⟨n1, n2⟩, ⟨g1, g2, g3, g4, g5⟩, ⟨f1, f2, f3, f4, f5, f6, f7, f8, f9⟩, ⟨o1, o2⟩, ⟨t1, t2⟩, ⟨⟨c1, l1⟩, c2, l2⟩⟩ := id h
  refine ⟨⟨?_, ?_⟩, ⟨fun i hi => ⟨kx.is (g1 i hi).1, fun hk => ?_⟩, fun x hx => ?_, fun i hi => ?_, fun i hi => ?_, g5⟩, ⟨?_, ?_, ?_, ?_, ?_, ?_, ?_, ?_, ?_⟩, ⟨fun q hq => ?_, fun i hi => ?_⟩, ⟨fun p hp => ⟨fun z0 => ?_, fun z0 => ⟨?_, ?_⟩⟩, t2⟩, ⟨c1, ?_⟩, c2, ?_⟩
  · rw [(kx.2.2.1 _ (Or.inr hθ.1)).2]; exact n1
  · rw [(kx.2.2.1 _ (Or.inr hθ.2)).2]; exact n2
  · rw [(kx.2.2.1 _ (Or.inl (g1 i hi).1.1)).2]; exact (g1 i hi).2 hk
  · have hx2 : x.1 ∉ [201, 401, 402, 604, 605, 606] ∧ x.2.1 < 26 := by
      exact lk_ok x hx
    by_cases c : scr x.2.1
    · rw [kR x.1 hx2.1 _ c]; exact g2 x hx
    · rw [(sS _ (Or.inl hx2.2) c).2.2.2.2.2]; exact g2 x hx
  · rw [(nn 10 (by decide) (by decide)).2.2.2.1]; exact g3 i hi
  · rw [(nn 11 (by decide) (by decide)).2.2.2.1]; exact g4 i hi
  · unfold fA; rw [I 3 0 (by decide) (by decide) (by decide), I 5 0 (by decide) (by decide) (by decide), E 4 (by decide) (by decide)]; exact f1
  · unfold fW; rw [I 301 6 (by decide) (by decide) (by decide), E 7 (by decide) (by decide)]; exact f2
  · unfold fC; rw [E 9 (by decide) (by decide)]; exact f3
  · unfold fF; rw [E 2 (by decide) (by decide)]; exact f4
  · unfold fQ; rw [I 13 0 (by decide) (by decide) (by decide), E 21 (by decide) (by decide), E 22 (by decide) (by decide)]; exact f5
  · unfold fD; rw [I 17 0 (by decide) (by decide) (by decide), E 23 (by decide) (by decide), E 24 (by decide) (by decide), E 25 (by decide) (by decide)]; exact f6
  · unfold fM; rw [I 12 0 (by decide) (by decide) (by decide), I 14 0 (by decide) (by decide) (by decide)]; exact f7
  · unfold fX; rw [kI, E 18 (by decide) (by decide), E 19 (by decide) (by decide)]; exact f8
  · unfold fG; rw [I 11 0 (by decide) (by decide) (by decide)]; exact f9
  · by_cases c : q ∈ gc_d σ
    · rw [hw q c]; exact kx.1 _ (o1 q c)
    · show (if q ∈ gc_d σ then ow q else q) ∈ gc_d σ'
      rw [if_neg c]; exact hq
  · rw [hw _ (g1 i hi).1.1]; exact o2 i hi
  · rw [(nn 3 (by decide) (by decide)).2.2.2.1]; exact (t1 p hp).1 z0
  · rw [(nn 3 (by decide) (by decide)).2.2.2.1]; exact ((t1 p hp).2 z0).1
  · refine ((t1 p hp).2 z0).2.cx hθ kx (fun q ⟨i, i1, i2⟩ => ?_) hw (fun _ z => z)
    rw [i2]
    exact h.tn ((t1 p hp).2 z0).2 i1.role
  · refine l1.cx hθ kx (fun q ⟨i, i1, i2⟩ _ => ?_) (fun q hq e => (hw q hq).trans e)
    rw [i2, o2 i i1.role]
    refine h.ne ?_ i1.role (Or.inl (by decide))
    rintro rfl; unfold scr at i1; simp at i1
  · refine l2.cx hθ kx (fun q ⟨i, i1, i2⟩ _ => ?_) (fun q hq e => (hw q hq).trans e)
    rw [i2, o2 i i1.role]
    refine h.ne ?_ i1.role (Or.inl (by decide))
    rintro rfl; unfold scr at i1; simp at i1
