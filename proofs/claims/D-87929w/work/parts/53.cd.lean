/-! NODES LYING ABOUT: a copied tree in the making (put, take, move) -/
def cD (θ : gc_T) (σ : gc_S) (ow : Nat → Nat) (L : Nat → Prop) (m : Nat) (A : Nat → Nat) (r : Nat → rw_) (ch : Nat → List Nat) (pa : Nat → Option Nat) : Prop := (∀ i, i < m → cN θ σ ow L (A i) (r i) ((ch i).map A)) ∧ (∀ i, i < m → gc_R σ 803 (A i) = pa i) ∧ ∀ i j, i < m → j < m → A i = A j → i = j
/-- since σ0 only new cells were written; the tree's cell and its rows -/
def cY (θ : gc_T) (σ0 : gc_S) (ow0 : Nat → Nat) (tr ah bh a0 : Nat) (σ : gc_S) (ow : Nat → Nat) : Prop := cx θ (fun _ => False) σ0 σ ∧ (∀ x, x ∈ gc_d σ0 → ow x = ow0 x) ∧ oc σ0 ow0 ∧ oc σ ow ∧ (cR σ tr ah bh ∧ gc_R σ 700 tr = some a0 ∧ ow tr = tr ∧ ow ah = tr ∧ ow bh = tr) ∧ tr ∉ gc_d σ0
theorem ls_map_get {l : List Nat} {A : Nat → Nat} {j : Nat} (hj : j < l.length) : (l.map A).getD j 0 = A (l.getD j 0) := by
  rw [List.getD_eq_getElem?_getD, List.getD_eq_getElem?_getD, List.getElem?_map, List.getElem?_eq_getElem hj]
  rfl
theorem ls_map_del {l : List Nat} {A : Nat → Nat} {j : Nat} : ls_del (l.map A) j = (ls_del l j).map A := by
  unfold ls_del
  rw [List.map_append, List.map_take, List.map_drop]
theorem ls_map_ins {l : List Nat} {A : Nat → Nat} {j v : Nat} : ls_ins (l.map A) j (A v) = (ls_ins l j v).map A := by
  unfold ls_ins
  rw [List.map_append, List.map_cons, List.map_take, List.map_drop]
section CD
variable {θ : gc_T} {σ0 σ σ1 : gc_S} {ow0 ow ow1 : Nat → Nat} {L : Nat → Prop} {tr ah bh a0 m : Nat} {A : Nat → Nat} {r : Nat → rw_} {ch : Nat → List Nat} {pa : Nat → Option Nat}
theorem cY.fresh (h : cY θ σ0 ow0 tr ah bh a0 σ ow) {q : Nat} (hq : ow q ∉ gc_d σ0) : q ∉ gc_d σ0 := fun z => hq (by rw [h.2.1 q z]; exact h.2.2.1 q z)
theorem cY.step {S : Nat → Prop} (h : cY θ σ0 ow0 tr ah bh a0 σ ow) (hw : ∀ x, x ∈ gc_d σ → ow1 x = ow x) (ho : oc σ1 ow1) (hx : cx θ S σ σ1) (hS : ∀ q, S q → q ∈ gc_d σ ∧ q ∉ gc_d σ0 ∧ gc_k σ q ≠ 7 ∧ gc_k σ q ≠ 18) : cY θ σ0 ow0 tr ah bh a0 σ1 ow1 := by
  obtain ⟨c1, c2, c3, c4, ⟨⟨r1, r2, r3, r4, r5, r6, r7, r8⟩, c6, c7, c8, c9⟩, c10⟩ := h
  have key : ∀ q, q ∈ gc_d σ → (gc_k σ q = 7 ∨ gc_k σ q = 18) → cs_ σ σ1 q := fun q hq hk => hx.2.2.2 q (Or.inl hq) (fun z => by
    have h1 := (hS q z).2.2.1
    have h2 := (hS q z).2.2.2
    omega)
  have e1 := key tr r1.1 (Or.inl r1.2)
  refine ⟨c1.trans hx (fun q hq => Or.inr ⟨(hS q hq).2.1, (c1.2.1 q (hS q hq).1).resolve_left (hS q hq).2.1⟩), fun x hx' => (hw x (c1.1 x hx')).trans (c2 x hx'), c3, ho, ⟨⟨hx.is r1, ?_, ?_, hx.is r4, hx.is r5, ?_, ?_, r8⟩, ?_, (hw tr r1.1).trans c7, (hw ah r4.1).trans c8, (hw bh r5.1).trans c9⟩, c10⟩
  · rw [e1.2.2.2.2.2]; exact r2
  · rw [e1.2.2.2.2.2]; exact r3
  · rw [(key ah r4.1 (Or.inr r4.2)).2.1]; exact r6
  · rw [(key bh r5.1 (Or.inr r5.2)).2.1]; exact r7
  · rw [e1.2.2.2.2.2]; exact c6
theorem cD.congr {ch' : Nat → List Nat} (h : cD θ σ ow L m A r ch pa) (k : ∀ x, x < m → ch' x = ch x) : cD θ σ ow L m A r ch' pa := ⟨fun i hi => by rw [k i hi]; exact h.1 i hi, h.2⟩
/-- one node's list is written -/
theorem cD_step {i : Nat} {l : List Nat} (hθ : cTh θ) (hY : cY θ σ0 ow0 tr ah bh a0 σ ow) (hF : ∀ i, i < m → A i ∉ gc_d σ0) (hD : cD θ σ ow L m A r ch pa) (hi : i < m) (hx : cx θ (cLs σ ow (A i)) σ σ1) (hw : ∀ x, x ∈ gc_d σ → ow1 x = ow x) (ho : oc σ1 ow1) (hN : cN θ σ1 ow1 L (A i) (r i) (l.map A)) : cY θ σ0 ow0 tr ah bh a0 σ1 ow1 ∧ cD θ σ1 ow1 L m A r (fun x => if x = i then l else ch x) pa := by
  refine ⟨hY.step hw ho hx (fun q hq => ⟨hq.1, hY.fresh (by rw [hq.2.1]; exact hF i hi), ?_, ?_⟩), fun x hx' => ?_, fun x hx' => ?_, hD.2.2⟩
  · rcases hq.2.2 with e | e <;> omega
  · rcases hq.2.2 with e | e <;> omega
  · show cN θ σ1 ow1 L (A x) (r x) (List.map A (if x = i then l else ch x))
    by_cases e : x = i
    · subst e; rw [if_pos rfl]; exact hN
    · rw [if_neg e]
      refine (hD.1 x hx').cx hθ hx (fun q hq => ⟨?_, fun y => ?_⟩) (fun q hq e1 => by rw [hw q hq]; exact e1) (fun _ y => y)
      · rw [hq.2.1]; exact fun y => e (hD.2.2 x i hx' hi y.symm)
      · rcases hq.2.2 with e | e <;> omega
  · have hs : cs_ σ σ1 (A x) := hx.2.2.2 (A x) (Or.inl (hD.1 x hx').2.1) (fun y => by
      have h1 := (hD.1 x hx').2.2.1
      have h2 := (hD.1 x hx').2.2.2.1
      rcases y.2.2 with e | e <;> omega)
    rw [hs.2.2.2.2.2]
    exact hD.2.1 x hx'
/-- one node's parent is written -/
theorem cD_par {v : Nat} {x : Option Nat} (hY : cY θ σ0 ow0 tr ah bh a0 σ ow) (hF : ∀ i, i < m → A i ∉ gc_d σ0) (hD : cD θ σ ow L m A r ch pa) (hv : v < m) : cY θ σ0 ow0 tr ah bh a0 (gc_sR σ 803 (A v) x) ow ∧ cD θ (gc_sR σ 803 (A v) x) ow L m A r ch (fun y => if y = v then x else pa y) := by
  refine ⟨hY.step (S := (· = A v)) (fun _ _ => rfl) (hY.2.2.2.1.same rfl) (cx_sR σ 803 (A v) x) ?_, fun i hi => (hD.1 i hi).s803, fun i hi => ?_, hD.2.2⟩
  · rintro q rfl
    have h1 := (hD.1 v hv).2.2.1
    have h2 := (hD.1 v hv).2.2.2.1
    exact ⟨(hD.1 v hv).2.1, hF v hv, by omega, by omega⟩
  · rw [rd_R_sR]
    show _ = if i = v then x else pa i
    by_cases e : i = v
    · rw [if_pos ⟨rfl, by rw [e]⟩, if_pos e]
    · rw [if_neg (fun y => e (hD.2.2 i v hi hv y.2)), if_neg e]; exact hD.2.1 i hi
/-- a new node -/
theorem cD_new {q : Nat} {r0 : rw_} (hθ : cTh θ) (hY : cY θ σ0 ow0 tr ah bh a0 σ ow) (hF : ∀ i, i < m → A i ∉ gc_d σ0) (hD : cD θ σ ow L m A r ch pa) (hc : ∀ x, x < m → ∀ y ∈ ch x, y < m) (hx : cx θ (fun _ => False) σ σ1) (hw : ∀ x, x ∈ gc_d σ → ow1 x = ow x) (ho : oc σ1 ow1) (hq : q ∉ gc_d σ) (hN : cN θ σ1 ow1 L q r0 []) (hp : gc_R σ1 803 q = none) :
    cY θ σ0 ow0 tr ah bh a0 σ1 ow1 ∧ (∀ i, i < m + 1 → (fun x => if x = m then q else A x) i ∉ gc_d σ0) ∧ cD θ σ1 ow1 L (m + 1) (fun x => if x = m then q else A x) (fun x => if x = m then r0 else r x) (fun x => if x = m then [] else ch x) (fun x => if x = m then none else pa x) := by
  have nq : ∀ i, i < m → A i ≠ q := fun i hi e => hq (e ▸ (hD.1 i hi).2.1)
  refine ⟨hY.step hw ho hx (fun _ y => y.elim), fun i hi => ?_, fun i hi => ?_, fun i hi => ?_, fun i j hi hj e => ?_⟩
  · show (if i = m then q else A i) ∉ gc_d σ0
    by_cases e : i = m
    · rw [if_pos e]; exact fun y => hq (hY.1.1 q y)
    · rw [if_neg e]; exact hF i (by omega)
  · show cN θ σ1 ow1 L (if i = m then q else A i) (if i = m then r0 else r i) (List.map (fun x => if x = m then q else A x) (if i = m then [] else ch i))
    by_cases e : i = m
    · rw [if_pos e, if_pos e, if_pos e]; exact hN
    · rw [if_neg e, if_neg e, if_neg e]
      rw [ls_map_congr (g := A) (fun x hx' => if_neg (by have := hc i (by omega) x hx'; omega))]
      exact (hD.1 i (by omega)).cx hθ hx (fun _ y => y.elim) (fun q hq e1 => by rw [hw q hq]; exact e1) (fun _ y => y)
  · show gc_R σ1 803 (if i = m then q else A i) = if i = m then none else pa i
    by_cases e : i = m
    · rw [if_pos e, if_pos e]; exact hp
    · rw [if_neg e, if_neg e]
      have hs : cs_ σ σ1 (A i) := hx.2.2.2 (A i) (Or.inl (hD.1 i (by omega)).2.1) (fun y => y)
      rw [hs.2.2.2.2.2]; exact hD.2.1 i (by omega)
  · change (if i = m then q else A i) = if j = m then q else A j at e
    by_cases e1 : i = m
    · by_cases e2 : j = m
      · omega
      · rw [if_pos e1, if_neg e2] at e; exact absurd e.symm (nq j (by omega))
    · by_cases e2 : j = m
      · rw [if_neg e1, if_pos e2] at e; exact absurd e (nq i (by omega))
      · rw [if_neg e1, if_neg e2] at e; exact hD.2.2 i j (by omega) (by omega) e
/-- a tree of some of them -/
theorem cD_tree {t : tr_} {π : Nat → Nat} (hD : cD θ σ ow L m A r ch pa) (ho : dl_ok (tr_d t) (tr_n t)) (hπ : ∀ k, k < tr_n t → π k < m) (hj : ∀ j k, j < tr_n t → k < tr_n t → π j = π k → j = k) (hr : ∀ k, k < tr_n t → rw_a (tr_r t k) = rw_a (r (π k)) ∧ rw_k (tr_r t k) = rw_k (r (π k)) ∧ rw_l (tr_r t k) = rw_l (r (π k)) ∧ rw_t (tr_r t k) = rw_t (r (π k)))
    (hc : ∀ k, k < tr_n t → (dl_cl (tr_d t) (tr_n t) k).map π = ch (π k)) (hp : ∀ k j, k < tr_n t → j < tr_n t → dl_pa (tr_d t) j = k → π j ∈ ch (π k) → pa (π j) = some (A (π k))) : cT θ σ ow L t (fun k => A (π k)) := by
  refine ⟨ho, fun k hk => ?_, fun k h0 hk => ?_, fun i j hi hj' e => hj i j hi hj' (hD.2.2 _ _ (hπ i hi) (hπ j hj') e)⟩
  · have h := hD.1 (π k) (hπ k hk)
    rw [← hc k hk, List.map_map] at h
    obtain ⟨e1, e2, e3, e4⟩ := hr k hk
    obtain ⟨h1, h2, h3, h4, h5, h6, h7, h8⟩ := h
    exact ⟨h1, h2, by rw [e2]; exact h3, by rw [e2]; exact h4, by rw [e1]; exact h5, by rw [e3]; exact h6, by rw [e4]; exact h7, h8⟩
  · have hlt := (dl_pa_spec ho h0 hk).1
    have hm := (dl_cl_pa ho (i := dl_pa (tr_d t) k) (by omega)).mpr ⟨h0, hk, rfl⟩
    have hm2 : π k ∈ ch (π (dl_pa (tr_d t) k)) := by rw [← hc _ (by omega)]; exact List.mem_map_of_mem hm
    show gc_R σ 803 (A (π k)) = _
    rw [hD.2.1 _ (hπ k hk)]
    exact hp _ k (by omega) hk rfl hm2
/-- a tree is nodes lying about -/
theorem cT.D {t : tr_} (h : cT θ σ ow L t A) (h0 : gc_R σ 803 (A 0) = none) : cD θ σ ow L (tr_n t) A (tr_r t) (fun x => dl_cl (tr_d t) (tr_n t) x) (fun x => if x = 0 then none else some (A (dl_pa (tr_d t) x))) := by
  refine ⟨h.2.1, fun i hi => ?_, h.2.2.2⟩
  show _ = if i = 0 then none else some (A (dl_pa (tr_d t) i))
  by_cases e : i = 0
  · rw [if_pos e, e]; exact h0
  · rw [if_neg e]; exact h.2.2.1 i (by omega) hi
variable {P : Int32 → gc_S → Prop} {R : Option Nat → gc_S → Prop} {V : gc_S → Prop} {n cc ss : Nat}
theorem kd_remove {i j c0 : Nat} {x : Int32} (hθ : cTh θ) (hY : cY θ σ0 ow0 tr ah bh a0 σ ow) (hF : ∀ i, i < m → A i ∉ gc_d σ0) (hD : cD θ σ ow L m A r ch pa) (hi : i < m) (hj : j < (ch i).length) (hc : gc_R σ 804 (A i) = some c0)
    (k : ∀ σ', cY θ σ0 ow0 tr ah bh a0 σ' ow → cD θ σ' ow L m A r (fun y => if y = i then ls_del (ch i) j else ch y) pa → R (some (A ((ch i).getD j 0))) σ') (hx : x = nI j := by rfl) (hn : 3 ≤ n := by omega) : gx_C (gc_O θ) (nJ5_remove n) [.ref c0, .int x] σ (gc_Pr R) := by
  obtain ⟨c, e1, hl⟩ := (hD.1 i hi).2.2.2.2.2.2.2
  obtain rfl : c0 = c := by rw [hc] at e1; exact Option.some.inj e1
  have hN := hD.1 i hi
  refine kc_remove hl (by rw [List.length_map]; exact hj) (fun σ' hd hx2 hl2 => ?_) hx hn
  rw [ls_map_get hj]
  rw [ls_map_del] at hl2
  have hN2 : cN θ σ' ow L (A i) (r i) ((ls_del (ch i) j).map A) := cN_of hN hθ hx2 (fun y => by
    have h1 := hN.2.2.1
    have h2 := hN.2.2.2.1
    rcases y.2.2 with e | e <;> omega) (fun q hq y => by rcases hq.2.2 with e | e <;> omega) hN.1 hc hl2
  obtain ⟨g1, g2⟩ := cD_step hθ hY hF hD hi hx2 (fun _ _ => rfl) (hY.2.2.2.1.same hd) hN2
  exact k σ' g1 g2
theorem kd_removeO {i j v c0 : Nat} (hθ : cTh θ) (hY : cY θ σ0 ow0 tr ah bh a0 σ ow) (hF : ∀ i, i < m → A i ∉ gc_d σ0) (hD : cD θ σ ow L m A r ch pa) (hi : i < m) (hv : v < m) (hj : j < (ch i).length) (he : (ch i).getD j 0 = v) (hm : ∀ y ∈ ch i, y < m) (hne : ∀ y, y < j → (ch i).getD y 0 ≠ v) (hc : gc_R σ 804 (A i) = some c0)
    (k : ∀ σ', cY θ σ0 ow0 tr ah bh a0 σ' ow → cD θ σ' ow L m A r (fun y => if y = i then ls_del (ch i) j else ch y) pa → P 1 σ') (hn : 2 ≤ n := by omega) : gx_C (gc_O θ) (nJ5_remove_2 n) [.ref c0, .ref (A v)] σ (gc_Pi P) := by
  obtain ⟨c, e1, hl⟩ := (hD.1 i hi).2.2.2.2.2.2.2
  obtain rfl : c0 = c := by rw [hc] at e1; exact Option.some.inj e1
  have hN := hD.1 i hi
  refine kc_removeO (i := j) hl (hD.1 v hv).isN (by rw [List.length_map]; exact hj) (by rw [ls_map_get hj, he]) (fun y hy => ?_) (fun σ' hd hx2 hl2 => ?_) hn
  · rw [ls_map_get (by omega)]
    exact fun e => hne y hy (hD.2.2 _ _ (hm _ (by
      rw [List.getD_eq_getElem?_getD, List.getElem?_eq_getElem (by omega)]
      exact List.getElem_mem _)) hv e)
  rw [ls_map_del] at hl2
  have hN2 : cN θ σ' ow L (A i) (r i) ((ls_del (ch i) j).map A) := cN_of hN hθ hx2 (fun y => by
    have h1 := hN.2.2.1
    have h2 := hN.2.2.2.1
    rcases y.2.2 with e | e <;> omega) (fun q hq y => by rcases hq.2.2 with e | e <;> omega) hN.1 hc hl2
  obtain ⟨g1, g2⟩ := cD_step hθ hY hF hD hi hx2 (fun _ _ => rfl) (hY.2.2.2.1.same hd) hN2
  exact k σ' g1 g2
theorem kd_add {i v : Nat} (hθ : cTh θ) (hY : cY θ σ0 ow0 tr ah bh a0 σ ow) (hF : ∀ i, i < m → A i ∉ gc_d σ0) (hD : cD θ σ ow L m A r ch pa) (hi : i < m) (hv : v < m) (h40 : (ch i).length ≤ 40)
    (k : ∀ σ' ow', cY θ σ0 ow0 tr ah bh a0 σ' ow' → cD θ σ' ow' L m A r (fun y => if y = i then ch i ++ [v] else ch y) (fun y => if y = v then some (A i) else pa y) → V σ') (hn : 7 ≤ n := by omega) (hc : 1 ≤ cc := by omega) (hs : 60 ≤ ss := by omega) : vC_add θ n cc ss σ (A i) [.ref (A v)] (gc_Pv V) := by
  refine kc_nadd hθ hY.2.2.2.1 (hD.1 i hi) (hD.1 v hv).isN (by rw [List.length_map]; exact h40) (fun σ1 ow' hw ho hx hN => ?_) hn hc hs
  have e : (ch i).map A ++ [A v] = (ch i ++ [v]).map A := by rw [List.map_append]; rfl
  rw [e] at hN
  obtain ⟨g1, g2⟩ := cD_step hθ hY hF hD hi hx hw ho hN
  obtain ⟨g3, g4⟩ := cD_par (v := v) (x := some (A i)) g1 hF g2 hv
  exact k _ _ g3 g4
theorem kd_addAt {i v j : Nat} {x : Int32} (hθ : cTh θ) (hY : cY θ σ0 ow0 tr ah bh a0 σ ow) (hF : ∀ i, i < m → A i ∉ gc_d σ0) (hD : cD θ σ ow L m A r ch pa) (hi : i < m) (hv : v < m) (h40 : (ch i).length ≤ 40) (hj : j ≤ (ch i).length)
    (k : ∀ σ' ow', cY θ σ0 ow0 tr ah bh a0 σ' ow' → cD θ σ' ow' L m A r (fun y => if y = i then ls_ins (ch i) j v else ch y) (fun y => if y = v then some (A i) else pa y) → V σ') (hx : x = nI j := by rfl) (hn : 7 ≤ n := by omega) (hc : 1 ≤ cc := by omega) (hs : 60 ≤ ss := by omega) : vC_add_2 θ n cc ss σ (A i) [.int x, .ref (A v)] (gc_Pv V) := by
  refine kc_naddAt hθ hY.2.2.2.1 (hD.1 i hi) (hD.1 v hv).isN (by rw [List.length_map]; exact h40) (by rw [List.length_map]; exact hj) (fun σ1 ow' hw ho hx hN => ?_) hx hn hc hs
  rw [ls_map_ins] at hN
  obtain ⟨g1, g2⟩ := cD_step hθ hY hF hD hi hx hw ho hN
  obtain ⟨g3, g4⟩ := cD_par (v := v) (x := some (A i)) g1 hF g2 hv
  exact k _ _ g3 g4
/-- do two children of a node bear one label? -/
theorem kc_clashesT {t : tr_} {i : Nat} (ht : cT θ σ ow L t A) (hi : i < tr_n t) (hl : ∀ j, j < tr_n t → (tr_l t j).length ≤ 6 ∧ ∀ c ∈ tr_l t j, c < 256) (k1 : tr_k t i = 2 ∧ tr_tw1 t i → P 1 σ) (k0 : ¬ (tr_k t i = 2 ∧ tr_tw1 t i) → P 0 σ) (hn : 4 ≤ n := by omega) : vC_clashes θ n σ (A i) [] (gc_Pi P) := by
  have htw : ls_tw ((dl_cl (tr_d t) (tr_n t) i).map A).length (fun j => tr_l t (dl_at (tr_d t) (tr_n t) i j)) ↔ tr_tw1 t i := by
    unfold ls_tw tr_tw1
    rw [List.length_map]
  refine kc_clashes (l := fun j => tr_l t (dl_at (tr_d t) (tr_n t) i j)) (ht.2.1 i hi) (fun j hj => ?_) (fun b1 b2 => k1 ⟨b1, htw.mp b2⟩) (fun b => k0 (fun y => b ⟨y.1, htw.mpr y.2⟩)) hn
  rw [List.length_map] at hj
  have hin : ((dl_cl (tr_d t) (tr_n t) i).map A).getD j 0 = A (dl_at (tr_d t) (tr_n t) i j) := by
    rw [List.getD_eq_getElem?_getD, List.getElem?_map, dl_at_get hj]
    rfl
  have hat := dl_at_in ht.1 hi hj
  have hen := (dl_en_spec (d := tr_d t) (n := tr_n t) (i := i) hi).2.1
  have hNj := ht.2.1 (dl_at (tr_d t) (tr_n t) i j) (by omega)
  rw [hin]
  exact ⟨hNj.isN, hNj.2.2.2.2.2.1, hl _ (by omega)⟩
end CD
section CE
variable {θ : gc_T} {g : Nat → Nat} {σ0 σ σ' : gc_S} {z : zz} {ow0 ow TR : Nat → Nat} {A : Nat → Nat → Nat} {tr ah bh a0 : Nat} {B : Nat → Nat} {t : tr_}
theorem cY.cs (hθ : cTh θ) (h0 : CSo θ g σ0 z ow0 TR A) (hY : cY θ σ0 ow0 tr ah bh a0 σ ow) : CSo θ g σ z ow TR A := h0.ext hθ hY.1 hY.2.1 hY.2.2.2.1
theorem CSo.tin (h : CSo θ g σ0 z ow0 TR A) {p : Nat} (hp : p < 8) (n0 : tr_n (zt z p) ≠ 0) : TR p ∈ gc_d σ0 ∧ gc_is σ0 (TR p) 7 ∧ ∀ i, i < tr_n (zt z p) → A p i ∈ gc_d σ0 := by
  obtain ⟨_, hT, ⟨ah, bh, ⟨hR, _⟩, _⟩, _⟩ := (h.2.2.2.2.1.1 p hp).2 n0
  exact ⟨hR.1.1, hR.1, fun i hi => (hT.2.1 i hi).2.1⟩
/-- the tree is numbered: only new cells were written -/
theorem cY.num (hY : cY θ σ0 ow0 tr ah bh a0 σ ow) (hT : cT θ σ ow (cLg g) t B) (hB : ∀ k, k < tr_n t → B k ∉ gc_d σ0) (hf : nb_fr tr ah bh B 0 (tr_n t) σ σ') : cx θ (fun _ => False) σ0 σ' ∧ oc σ' ow := by
  have hr := hY.2.2.2.2.1
  refine ⟨hY.1.trans (hf.cx (θ := θ)) (fun q hq => ?_), hY.2.2.2.1.same hf.1⟩
  have key : ∀ x, x ∈ gc_d σ → x ∉ gc_d σ0 → False ∨ (x ∉ gc_d σ0 ∧ gc_A θ x) := fun x h1 h2 => Or.inr ⟨h2, (hY.1.2.1 x h1).resolve_left h2⟩
  rcases hq with rfl | rfl | rfl | ⟨k, _, hk, rfl⟩
  · exact key _ hr.1.1.1 hY.2.2.2.2.2
  · exact key _ hr.1.2.2.2.1.1 (hY.fresh (by rw [hr.2.2.2.1]; exact hY.2.2.2.2.2))
  · exact key _ hr.1.2.2.2.2.1.1 (hY.fresh (by rw [hr.2.2.2.2]; exact hY.2.2.2.2.2))
  · exact key _ (hT.2.1 k hk).2.1 (hB k hk)
theorem cY.grown {q : Nat} (hθ : cTh θ) (h0 : CSo θ g σ0 z ow0 TR A) (hY : cY θ σ0 ow0 tr ah bh a0 σ ow) (hT : cT θ σ ow (cLg g) t B) (hB : ∀ k, k < tr_n t → B k ∉ gc_d σ0) (hp : gc_R σ 803 (B 0) = none) (hf : nb_fr tr ah bh B 0 (tr_n t) σ σ') :
    CSo θ g σ' z ow TR A ∧ cT θ σ' ow (cLg g) t B ∧ (cK σ' tr ah bh t B → CSo θ g (gc_sQ σ' (g 3) q (some tr)) (z_t z q t) ow (fun p => if p = q then tr else TR p) (fun p => if p = q then B else A p)) := by
  obtain ⟨x1, o1⟩ := hY.num hT hB hf
  have hr := hY.2.2.2.2.1
  have h1 : CSo θ g σ' z ow TR A := h0.ext hθ x1 hY.2.1 o1
  have hT1 : cT θ σ' ow (cLg g) t B := hf.cT hT (by rw [hr.1.2.2.2.1.2]; decide) (by rw [hr.1.2.2.2.2.1.2]; decide)
  refine ⟨h1, hT1, fun hk => ?_⟩
  have hW : cW θ σ' ow (cLg g) tr t B := ⟨hT1, ⟨ah, bh, hk, hr.2.2.2.1, hr.2.2.2.2⟩, hr.2.2.1, by rw [hf.2.2.2.1]; exact hp⟩
  refine h1.set hθ hW (fun p hp n0 hpq => ?_)
  obtain ⟨i1, _, i2⟩ := h0.tin hp n0
  exact ⟨fun e => hY.2.2.2.2.2 (e ▸ i1), fun i j hi hj e => hB j hj (e ▸ i2 i hi)⟩
end CE
