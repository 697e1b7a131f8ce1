/-! more of the model's small methods -/
theorem ls_ext {a b : List Nat} (h : a.length = b.length) (h2 : ∀ j, j < a.length → a.getD j 0 = b.getD j 0) : a = b := by
  apply List.ext_getElem h
  intro j h1 h3
  have := h2 j h1
  rw [List.getD_eq_getElem?_getD, List.getD_eq_getElem?_getD, List.getElem?_eq_getElem h1, List.getElem?_eq_getElem h3] at this
  exact this
theorem ls_getD_mem {a : List Nat} {j : Nat} (h : j < a.length) : a.getD j 0 ∈ a := by
  rw [List.getD_eq_getElem?_getD, List.getElem?_eq_getElem h]
  exact List.getElem_mem h
/-- how many places ahead of j have i inside their branches -/
def dl_anc (d : Nat → Nat) (n i : Nat) : Nat → Nat
  | 0 => 0
  | j + 1 => dl_anc d n i j + if i < dl_en d n j then 1 else 0
theorem dl_anc_none {d : Nat → Nat} {n i j0 : Nat} : ∀ m, (∀ q, j0 ≤ q → q < j0 + m → ¬ i < dl_en d n q) → dl_anc d n i (j0 + m) = dl_anc d n i j0 := by
  intro m
  induction m with
  | zero => intro _; rfl
  | succ m ih =>
    intro h
    show dl_anc d n i (j0 + m) + (if i < dl_en d n (j0 + m) then 1 else 0) = _
    rw [if_neg (h (j0 + m) (by omega) (by omega)), ih (fun q h1 h2 => h q h1 (by omega)), Nat.add_zero]
theorem dl_anc_congr {d : Nat → Nat} {n i i' : Nat} : ∀ j, (∀ q, q < j → (i < dl_en d n q ↔ i' < dl_en d n q)) → dl_anc d n i j = dl_anc d n i' j := by
  intro j
  induction j with
  | zero => intro _; rfl
  | succ j ih =>
    intro h
    show dl_anc d n i j + (if i < dl_en d n j then 1 else 0) = dl_anc d n i' j + (if i' < dl_en d n j then 1 else 0)
    rw [ih (fun q hq => h q (by omega))]
    by_cases c : i < dl_en d n j
    · rw [if_pos c, if_pos ((h j (by omega)).mp c)]
    · rw [if_neg c, if_neg (fun z => c ((h j (by omega)).mpr z))]
theorem dl_anc_d {d : Nat → Nat} {n : Nat} (h : dl_ok d n) : ∀ i, i < n → dl_anc d n i i = d i := by
  intro i
  induction i using Nat.strongRecOn with
  | _ i ih =>
    intro hi
    by_cases h0 : i = 0
    · subst h0; rw [h.2.1]; rfl
    · obtain ⟨a1, a2, a3⟩ := dl_pa_spec h (by omega) hi
      have hp := ih _ a1 (by omega)
      have e1 : dl_anc d n i (dl_pa d i + 1 + (i - (dl_pa d i + 1))) = dl_anc d n i (dl_pa d i + 1) := by
        refine dl_anc_none _ (fun q q1 q2 c => ?_)
        have := a3 q (by omega) (by omega)
        have := (dl_en_spec (d := d) (i := q) (n := n) (by omega)).2.2.1 i (by omega) c
        omega
      rw [show dl_pa d i + 1 + (i - (dl_pa d i + 1)) = i by omega] at e1
      rw [e1]
      show dl_anc d n i (dl_pa d i) + (if i < dl_en d n (dl_pa d i) then 1 else 0) = _
      have hin := ((dl_child h (by omega) hi (i := dl_pa d i) (by omega)).mp rfl).2.1
      rw [if_pos hin, dl_anc_congr (i' := dl_pa d i) _ (fun q hq => ⟨fun c => by omega, fun c => by have := dl_en_in (d := d) (n := n) (i := q) (j := dl_pa d i) (by omega) hq c; omega⟩), hp]
      exact a2
def ma_tape (X : gm_X) (a : List Nat) : Prop := X.1 4 = nI a.length ∧ a.length ≤ 400 ∧ ∀ j, j < a.length → X.2 3 j = nI (a.getD j 0) ∧ a.getD j 0 < 256
/-- a row is carried -/
def ma_car (X X' : gm_X) (p i q k : Nat) : Prop := X'.1 = X.1 ∧ (∀ a, a ≠ 0 → X'.2 a = X.2 a) ∧ (∀ w, w < 19 → ma_nd X' q k w = ma_nd X p i w) ∧ ∀ p' i' w, ¬ (p' = q ∧ i' = k) → i' < 30 → w < 19 → ma_nd X' p' i' w = ma_nd X p' i' w
/-- a tree is copied -/
def ma_cp (X X' : gm_X) (p q n : Nat) : Prop := X'.1 = X.1 ∧ (∀ a, a ≠ 0 → a ≠ 1 → X'.2 a = X.2 a) ∧ (∀ j, X'.2 1 j = if j = q then X.2 1 p else X.2 1 j) ∧ (∀ i w, i < n → w < 19 → ma_nd X' q i w = ma_nd X p i w) ∧ ∀ p' i w, p' ≠ q → i < 30 → w < 19 → ma_nd X' p' i w = ma_nd X p' i w
theorem ma_ml.of {X X' : gm_X} {p i q k w : Nat} {a : List Nat} (h : ma_ml X p i w a) (hl : w + a.length < 19) (e : ∀ u, u < 19 → ma_nd X' q k u = ma_nd X p i u) : ma_ml X' q k w a :=
  ⟨by rw [e w (by omega)]; exact h.1, fun j hj => by rw [e _ (by omega)]; exact h.2 j hj⟩
theorem ma_mr.of {X X' : gm_X} {p i q k : Nat} {r : rw_} (h : ma_mr X p i r) (ho : rw_ok r) (e : ∀ u, u < 19 → ma_nd X' q k u = ma_nd X p i u) : ma_mr X' q k r :=
  ⟨by rw [e 0 (by omega)]; exact h.1, by rw [e 1 (by omega)]; exact h.2.1, by rw [e 2 (by omega)]; exact h.2.2.1, h.2.2.2.1.of (by have := ho.2.2.2.1; omega) e, h.2.2.2.2.of (by have := ho.2.2.2.2.2.1; omega) e⟩
theorem ma_cp.to {X X' : gm_X} {p q : Nat} {t : tr_} (h : ma_cp X X' p q (tr_n t)) (hm : ma_mp X p t) (hq : q ≤ 10) : ma_mp X' q t :=
  ⟨hq, by rw [h.2.2.1 q, if_pos rfl]; exact hm.2.1, hm.2.2.1, fun i hi => ⟨(hm.2.2.2 i hi).1.of (hm.2.2.2 i hi).2 (fun u hu => h.2.2.2.1 i u hi hu), (hm.2.2.2 i hi).2⟩⟩
theorem ma_cp.keep {X X' : gm_X} {p q p' n : Nat} {t : tr_} (h : ma_cp X X' p q n) (hm : ma_mp X p' t) (hq : p' ≠ q) : ma_mp X' p' t :=
  ⟨hm.1, by rw [h.2.2.1 p', if_neg hq]; exact hm.2.1, hm.2.2.1, fun i hi => ⟨(hm.2.2.2 i hi).1.of (hm.2.2.2 i hi).2 (fun u hu => h.2.2.2.2 p' i u hq (by have := hm.2.2.1; omega) hu), (hm.2.2.2 i hi).2⟩⟩
section MB
variable {θ : gm_T} {P : Int32 → gm_X → Prop} {V : gm_X → Prop} {X : gm_X}
theorem km_isLike {x1 x2 x3 x4 x5 : Int32} (p i q k w : Nat) {a b : List Nat} (ha : ma_ml X p i w a) (hb : ma_ml X q k w b) (la : w + a.length < 19) (lb : w + b.length < 19) (ca : ∀ c ∈ a, c < 256) (cb : ∀ c ∈ b, c < 256) (k1 : a = b → P 1 X) (k0 : a ≠ b → P 0 X)
    (hp : p ≤ 10 := by omega) (hi : i < 30 := by omega) (hq : q ≤ 10 := by omega) (hk : k < 30 := by omega) (h1 : x1 = nI p := by rfl) (h2 : x2 = nI i := by rfl) (h3 : x3 = nI q := by rfl) (h4 : x4 = nI k := by rfl) (h5 : x5 = nI w := by rfl) :
    gx_C (gm_O θ) mX7_isLike [.ref (gm_am θ), .int x1, .int x2, .int x3, .int x4, .int x5] X (gm_Pi P) := by
  subst h1 h2 h3 h4 h5
  refine em_isLike (fun K h => bm_isLike_0 h (km_of p i w (km_of q k w ?_)))
  rw [ha.1, hb.1]
  refine pk_eq b.length a.length (fun e => ?_) (fun e => k0 (fun z => e (by rw [z])))
  have key : ∀ m j, j + m = a.length → (∀ u, u < j → a.getD u 0 = b.getD u 0) → gm_G θ K mX7_isLike (gm_Pi P) 29 [(0, .ref (gm_am θ)), (1, .int (nI p)), (2, .int (nI i)), (3, .int (nI q)), (4, .int (nI k)), (5, .int (nI w)), (6, .int (nI a.length)), (7, .int (nI (j + 1)))] [] X := by
    intro m
    induction m with
    | zero =>
      intro j hj hu
      refine bm_isLike_29 h (pk_lt a.length (j + 1) (fun _ => k1 (ls_ext e.symm (fun u h => hu u (by omega)))) (fun c => by omega))
    | succ m ih =>
      intro j hj hu
      refine bm_isLike_29 h (pk_lt a.length (j + 1) (fun c => by omega) (fun c => ?_))
      refine km_of p i (w + 1 + j) (km_of q k (w + 1 + j) ?_ (h3 := by rw [nI_add]; congr 1; omega)) (h3 := by rw [nI_add]; congr 1; omega)
      rw [ha.2 j (by omega), hb.2 j (by omega)]
      have c1 := ca _ (ls_getD_mem (a := a) (j := j) (by omega))
      have c2 := cb _ (ls_getD_mem (a := b) (j := j) (by omega))
      refine pl_eq (fun e2 => ?_) (fun e2 => k0 (fun z => e2 (by rw [z])))
      rw [nI_1]
      exact ih (j + 1) (by omega) (fun u hu2 => by
        by_cases z : u = j
        · rw [z]; exact e2
        · exact hu u (by omega))
  exact key a.length 0 (by omega) (fun u hu => by omega)
theorem km_named {x1 x2 : Int32} (p : Nat) {n : Nat} {nm : Nat → Nat} (hp : p ≤ 10) (hs : X.2 1 p = nI n) (hn : n ≤ 30) (hm : ∀ i, i < n → ma_nd X p i 0 = nI (nm i)) (k1 : ∀ i, i < n → nI (nm i) = x2 → (∀ j, j < i → ¬ nI (nm j) = x2) → P (nI i) X) (k0 : (∀ i, i < n → ¬ nI (nm i) = x2) → P (-1) X) (h1 : x1 = nI p := by rfl) :
    gx_C (gm_O θ) mX7_named [.ref (gm_am θ), .int x1, .int x2] X (gm_Pi P) := by
  subst h1
  refine em_named (fun K h => bm_named_0 h ?_)
  have key : ∀ m i, i + m = n → (∀ j, j < i → ¬ nI (nm j) = x2) → gm_G θ K mX7_named (gm_Pi P) 2 [(0, .ref (gm_am θ)), (1, .int (nI p)), (2, .int x2), (3, .int (nI i))] [] X := by
    intro m
    induction m with
    | zero =>
      intro i hi hu
      refine bm_named_2 h ⟨vp_in_nI (by omega) (by decide), ?_⟩
      rw [nI_clamp (by omega), hs]
      exact pk_le n i (fun _ => k0 (fun j hj => hu j (by omega))) (fun c => by omega)
    | succ m ih =>
      intro i hi hu
      refine bm_named_2 h ⟨vp_in_nI (by omega) (by decide), ?_⟩
      rw [nI_clamp (by omega), hs]
      refine pk_le n i (fun c => by omega) (fun c => km_of p i 0 ?_)
      rw [hm i c]
      refine ⟨fun e => k1 i c e hu, fun e => ?_⟩
      rw [nI_1]
      exact ih (i + 1) (by omega) (fun j hj => by
        by_cases z : j = i
        · rw [z]; exact e
        · exact hu j (by omega))
  exact key n 0 (by omega) (fun j hj => by omega)
theorem km_children {x1 x2 : Int32} (p i : Nat) {n : Nat} {d : Nat → Nat} (hm : ma_md X p n d) (ho : dl_ok d n) (hi : i < n) (k : P (nI (dl_cl d n i).length) X) (h1 : x1 = nI p := by rfl) (h2 : x2 = nI i := by rfl) : gx_C (gm_O θ) mX7_children [.ref (gm_am θ), .int x1, .int x2] X (gm_Pi P) := by
  subst h1 h2
  have hn := hm.2.2.1
  have hl := dl_len_lt ho hi
  have he := (dl_en_spec (d := d) hi).2.1
  refine em_children (fun K h => bm_children_0 h ?_)
  have key : ∀ m j, j + m = (dl_cl d n i).length → gm_G θ K mX7_children (gm_Pi P) 7 [(0, .ref (gm_am θ)), (1, .int (nI p)), (2, .int (nI i)), (3, .int (nI j)), (4, .int (nI (dl_at d n i j)))] [] X := by
    intro m
    induction m with
    | zero =>
      intro j hj
      refine bm_children_7 h (km_end p i hm hi ?_)
      have := dl_at_len (d := d) (n := n) (i := i) (k := j) (by omega)
      rw [this, show j = (dl_cl d n i).length by omega]
      exact pl_le (fun _ => k) (fun c => by omega)
    | succ m ih =>
      intro j hj
      have hj2 : j < (dl_cl d n i).length := by omega
      have := dl_at_in ho hi hj2
      refine bm_children_7 h (km_end p i hm hi ?_)
      refine pl_le (fun c => by omega) (fun _ => km_end p (dl_at d n i j) hm (by omega) ?_)
      rw [nI_1, ← dl_at_s ho hi hj2]
      exact ih (j + 1) (by omega)
  have := key (dl_cl d n i).length 0 (by omega)
  rw [dl_at_0 ho hi] at this
  rw [nI_1]
  exact this
theorem km_child {x1 x2 x3 : Int32} (p i c : Nat) {n : Nat} {d : Nat → Nat} (hm : ma_md X p n d) (ho : dl_ok d n) (hi : i < n) (hc : c ≤ (dl_cl d n i).length) (k : P (nI (dl_at d n i c)) X) (h1 : x1 = nI p := by rfl) (h2 : x2 = nI i := by rfl) (h3 : x3 = nI c := by rfl) :
    gx_C (gm_O θ) mX7_child [.ref (gm_am θ), .int x1, .int x2, .int x3] X (gm_Pi P) := by
  subst h1 h2 h3
  have hn := hm.2.2.1
  have hl := dl_len_lt ho hi
  have he := (dl_en_spec (d := d) hi).2.1
  refine em_child (fun K h => bm_child_0 h ?_)
  have key : ∀ m j, j + m = c → gm_G θ K mX7_child (gm_Pi P) 8 [(0, .ref (gm_am θ)), (1, .int (nI p)), (2, .int (nI i)), (3, .int (nI c)), (4, .int (nI (dl_at d n i j))), (5, .int (nI j))] [] X := by
    intro m
    induction m with
    | zero =>
      intro j hj
      refine bm_child_8 h (pk_le c j (fun _ => bm_child_40 h (by rw [show j = c by omega]; exact k)) (fun c => by omega))
    | succ m ih =>
      intro j hj
      have hj2 : j < (dl_cl d n i).length := by omega
      have := dl_at_in ho hi hj2
      refine bm_child_8 h (pk_le c j (fun c => by omega) (fun _ => km_end p i hm hi ?_))
      refine pl_le (fun c => by omega) (fun _ => km_end p (dl_at d n i j) hm (by omega) ?_)
      rw [nI_1, ← dl_at_s ho hi hj2]
      exact ih (j + 1) (by omega)
  have := key c 0 (by omega)
  rw [dl_at_0 ho hi] at this
  rw [nI_1]
  exact this
theorem km_behind {x1 x2 : Int32} (p i : Nat) {n : Nat} {d : Nat → Nat} (hm : ma_md X p n d) (ho : dl_ok d n) (hi : i < n) (k : P (nI (dl_bh d n i)) X) (h1 : x1 = nI p := by rfl) (h2 : x2 = nI i := by rfl) : gx_C (gm_O θ) mX7_behind [.ref (gm_am θ), .int x1, .int x2] X (gm_Pi P) := by
  subst h1 h2
  have hn := hm.2.2.1
  obtain ⟨e1, e2, e3, e4⟩ := dl_en_spec (d := d) hi
  have hd := dl_d_le ho i hi
  refine em_behind (fun K h => bm_behind_0 h (km_end p i hm hi ?_))
  have hle : ∀ j, dl_anc d n i j ≤ j := by
    intro j
    induction j with
    | zero => exact Nat.le_refl _
    | succ j ih => show dl_anc d n i j + (if i < dl_en d n j then 1 else 0) ≤ j + 1; split <;> omega
  have key : ∀ m j, j + m = i → gm_G θ K mX7_behind (gm_Pi P) 14 [(0, .ref (gm_am θ)), (1, .int (nI p)), (2, .int (nI i)), (3, .int (nI (dl_en d n i - i - 1 + (j - dl_anc d n i j)))), (4, .int (nI j))] [] X := by
    intro m
    induction m with
    | zero =>
      intro j hj
      refine bm_behind_14 h (pk_le i j (fun _ => ?_) (fun c => by omega))
      rw [show j = i by omega, dl_anc_d ho i hi, show dl_en d n i - i - 1 + (i - d i) = dl_bh d n i by unfold dl_bh; omega]
      exact k
    | succ m ih =>
      intro j hj
      have h3 := hle j
      have e5 := (dl_en_spec (d := d) (n := n) (i := j) (by omega)).2.1
      refine bm_behind_14 h (pk_le i j (fun c => by omega) (fun _ => km_end p j hm (by omega) ?_))
      have key2 := ih (j + 1) (by omega)
      have e6 : dl_anc d n i (j + 1) = dl_anc d n i j + (if i < dl_en d n j then 1 else 0) := rfl
      refine pk_le (dl_en d n j) i (fun c => ?_) (fun c => ?_)
      · rw [e6, if_neg (by omega)] at key2
        rw [nI_1, nI_1, show dl_en d n i - i - 1 + (j - dl_anc d n i j) + 1 = dl_en d n i - i - 1 + (j + 1 - (dl_anc d n i j + 0)) by omega]
        exact key2
      · rw [e6, if_pos c] at key2
        rw [show ∀ x : Int32, x + 0 = x from fun x => Int32.add_zero x, nI_1, show dl_en d n i - i - 1 + (j - dl_anc d n i j) = dl_en d n i - i - 1 + (j + 1 - (dl_anc d n i j + 1)) by omega]
        exact key2
  have := key i 0 (by omega)
  rw [show nI (dl_en d n i) - nI i - 1 = nI (dl_en d n i - i - 1) by rw [show (1 : Int32) = nI 1 from rfl, pk_sub (by omega), pk_sub (by omega)]]
  exact this
theorem km_carry {x1 x2 x3 x4 : Int32} (p i q k : Nat) (kk : ∀ X', ma_car X X' p i q k → V X') (hp : p ≤ 10 := by omega) (hi : i < 30 := by omega) (hq : q ≤ 10 := by omega) (hk : k < 30 := by omega) (h1 : x1 = nI p := by rfl) (h2 : x2 = nI i := by rfl) (h3 : x3 = nI q := by rfl) (h4 : x4 = nI k := by rfl) :
    gx_C (gm_O θ) mX7_carry [.ref (gm_am θ), .int x1, .int x2, .int x3, .int x4] X (gm_Pv V) := by
  subst h1 h2 h3 h4
  refine em_carry (fun K h => bm_carry_0 h ?_)
  have key : ∀ m w X', w + m = 19 → X'.1 = X.1 → (∀ a, a ≠ 0 → X'.2 a = X.2 a) → (∀ u, u < w → ma_nd X' q k u = ma_nd X p i u) → (∀ p' i' u, ¬ (p' = q ∧ i' = k ∧ u < w) → i' < 30 → u < 19 → ma_nd X' p' i' u = ma_nd X p' i' u) →
      gm_G θ K mX7_carry (gm_Pv V) 3 [(0, .ref (gm_am θ)), (1, .int (nI p)), (2, .int (nI i)), (3, .int (nI q)), (4, .int (nI k)), (5, .int (nI w))] [] X' := by
    intro m
    induction m with
    | zero =>
      intro w X' hw a1 a2 a3 a4
      refine bm_carry_3 h (pk_le 19 w (fun _ => kk X' ⟨a1, a2, fun u hu => a3 u (by omega), fun p' i' u h1 h2 h3 => a4 p' i' u (fun z => h1 ⟨z.1, z.2.1⟩) h2 h3⟩) (fun c => by omega))
    | succ m ih =>
      intro w X' hw a1 a2 a3 a4
      refine bm_carry_3 h (pk_le 19 w (fun c => by omega) (fun _ => km_of p i w (km_set q k w ?_)))
      rw [nI_1]
      have hpi : ma_nd X' p i w = ma_nd X p i w := a4 p i w (fun z => by omega) hi (by omega)
      refine ih (w + 1) _ (by omega) a1 (fun a ha => ?_) (fun u hu => ?_) (fun p' i' u hne h2 h3 => ?_)
      · rw [ma_pA_ne ha]; exact a2 a ha
      · rw [ma_nd_set hk (by omega) hk (by omega)]
        by_cases z : u = w
        · rw [if_pos ⟨rfl, rfl, z⟩, hpi, z]
        · rw [if_neg (fun y => z y.2.2)]; exact a3 u (by omega)
      · rw [ma_nd_set hk (by omega) h2 h3, if_neg (fun y => hne ⟨y.1, y.2.1, by omega⟩)]
        exact a4 p' i' u (fun y => hne ⟨y.1, y.2.1, by omega⟩) h2 h3
  exact key 19 0 X (by omega) rfl (fun _ _ => rfl) (fun u hu => by omega) (fun _ _ _ _ _ _ => rfl)
theorem km_copyAll {x1 x2 : Int32} (p q n : Nat) (hs : X.2 1 p = nI n) (hn : n ≤ 30) (kk : ∀ X', ma_cp X X' p q n → V X') (hp : p ≤ 10 := by omega) (hq : q ≤ 10 := by omega) (h1 : x1 = nI p := by rfl) (h2 : x2 = nI q := by rfl) :
    gx_C (gm_O θ) mX7_copyAll [.ref (gm_am θ), .int x1, .int x2] X (gm_Pv V) := by
  subst h1 h2
  refine em_copyAll (fun K h => bm_copyAll_0 h ?_)
  have key : ∀ m i X', i + m = n → X'.1 = X.1 → (∀ a, a ≠ 0 → X'.2 a = X.2 a) → (∀ j u, j < i → u < 19 → ma_nd X' q j u = ma_nd X p j u) → (∀ p' j u, ¬ (p' = q ∧ j < i) → j < 30 → u < 19 → ma_nd X' p' j u = ma_nd X p' j u) →
      gm_G θ K mX7_copyAll (gm_Pv V) 2 [(0, .ref (gm_am θ)), (1, .int (nI p)), (2, .int (nI q)), (3, .int (nI i))] [] X' := by
    intro m
    induction m with
    | zero =>
      intro i X' hi a1 a2 a3 a4
      refine bm_copyAll_2 h ⟨vp_in_nI (by omega) (by decide), ?_⟩
      rw [nI_clamp (by omega), a2 1 (by decide), hs]
      refine pk_le n i (fun _ => ⟨vp_in_nI (by omega) (by decide), vp_in_nI (by omega) (by decide), ?_⟩) (fun c => by omega)
      rw [nI_clamp (by omega)]
      rintro _ rfl
      refine kk _ ⟨a1, fun a h0 h1 => by rw [ma_pA_ne h1]; exact a2 a h0, fun j => ?_, fun j w hj hw => ?_, fun p' j w h1 h2 h3 => ?_⟩
      · rw [ma_pA_at, hs, a2 1 (by decide)]
      · show (gm_pA X' 1 q (nI n)).2 0 _ = _
        rw [ma_pA_ne (by decide)]; exact a3 j w (by omega) hw
      · show (gm_pA X' 1 q (nI n)).2 0 _ = _
        rw [ma_pA_ne (by decide)]; exact a4 p' j w (fun z => h1 z.1) h2 h3
    | succ m ih =>
      intro i X' hi a1 a2 a3 a4
      refine bm_copyAll_2 h ⟨vp_in_nI (by omega) (by decide), ?_⟩
      rw [nI_clamp (by omega), a2 1 (by decide), hs]
      refine pk_le n i (fun c => by omega) (fun _ => km_carry p i q i (fun X'' hc => ?_))
      rw [nI_1]
      have hpi : ∀ u, u < 19 → ma_nd X' p i u = ma_nd X p i u := fun u hu => a4 p i u (fun z => by omega) (by omega) hu
      refine ih (i + 1) X'' (by omega) (by rw [hc.1, a1]) (fun a ha => by rw [hc.2.1 a ha, a2 a ha]) (fun j u hj hu => ?_) (fun p' j u hne h2 h3 => ?_)
      · by_cases z : j = i
        · rw [z, hc.2.2.1 u hu, hpi u hu]
        · rw [hc.2.2.2 q j u (fun y => z y.2) (by omega) hu]; exact a3 j u (by omega) hu
      · rw [hc.2.2.2 p' j u (fun y => hne ⟨y.1, by omega⟩) h2 h3]
        exact a4 p' j u (fun y => hne ⟨y.1, by omega⟩) h2 h3
  exact key n 0 X (by omega) rfl (fun _ _ => rfl) (fun j u hj => by omega) (fun _ _ _ _ _ _ => rfl)
theorem km_isTooDeep {x1 : Int32} (p : Nat) {n : Nat} {d : Nat → Nat} (hm : ma_md X p n d) (k1 : (∃ i, i < n ∧ 12 ≤ d i) → P 1 X) (k0 : (∀ i, i < n → d i < 12) → P 0 X) (h1 : x1 = nI p := by rfl) : gx_C (gm_O θ) mX7_isTooDeep [.ref (gm_am θ), .int x1] X (gm_Pi P) := by
  subst h1
  obtain ⟨m0, m1, m2, m3⟩ := hm
  refine em_isTooDeep (fun K h => bm_isTooDeep_0 h ?_)
  have key : ∀ m i, i + m = n → (∀ j, j < i → d j < 12) → gm_G θ K mX7_isTooDeep (gm_Pi P) 2 [(0, .ref (gm_am θ)), (1, .int (nI p)), (2, .int (nI i))] [] X := by
    intro m
    induction m with
    | zero =>
      intro i hi hu
      refine bm_isTooDeep_2 h ⟨vp_in_nI (by omega) (by decide), ?_⟩
      rw [nI_clamp (by omega), m1]
      exact pk_le n i (fun _ => k0 (fun j hj => hu j (by omega))) (fun c => by omega)
    | succ m ih =>
      intro i hi hu
      refine bm_isTooDeep_2 h ⟨vp_in_nI (by omega) (by decide), ?_⟩
      rw [nI_clamp (by omega), m1]
      refine pk_le n i (fun c => by omega) (fun c => km_deep p i ?_)
      rw [(m3 i c).1]
      have := (m3 i c).2
      refine pk_lt (d i) 12 (fun e => ?_) (fun e => k1 ⟨i, c, e⟩)
      rw [nI_1]
      exact ih (i + 1) (by omega) (fun j hj => by
        by_cases z : j = i
        · rw [z]; exact e
        · exact hu j (by omega))
  exact key n 0 (by omega) (fun j hj => by omega)
end MB
