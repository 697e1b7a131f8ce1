/-! THE COMPONENT's CELLS: what stays as it is -/
/-- a cell is as it was (but for the number of a node's sort, field 809) -/
def cs_ (σ σ' : gc_S) (a : Nat) : Prop := gc_k σ' a = gc_k σ a ∧ gc_n σ' a = gc_n σ a ∧ gc_E σ' a = gc_E σ a ∧ gc_Q σ' a = gc_Q σ a ∧ (∀ f, f ≠ 809 → gc_I σ' f a = gc_I σ f a) ∧ ∀ f, gc_R σ' f a = gc_R σ f a
theorem cs_.refl (σ : gc_S) (a : Nat) : cs_ σ σ a := ⟨rfl, rfl, rfl, rfl, fun _ _ => rfl, fun _ => rfl⟩
theorem cs_.trans {σ σ1 σ2 : gc_S} {a : Nat} (h : cs_ σ σ1 a) (k : cs_ σ1 σ2 a) : cs_ σ σ2 a :=
  ⟨k.1.trans h.1, k.2.1.trans h.2.1, k.2.2.1.trans h.2.2.1, k.2.2.2.1.trans h.2.2.2.1, fun f hf => (k.2.2.2.2.1 f hf).trans (h.2.2.2.2.1 f hf), fun f => (k.2.2.2.2.2 f).trans (h.2.2.2.2.2 f)⟩
/-- the old cells stay, but for those of S -/
def cx (θ : gc_T) (S : Nat → Prop) (σ σ' : gc_S) : Prop := (∀ a, a ∈ gc_d σ → a ∈ gc_d σ') ∧ (∀ a, a ∈ gc_d σ' → a ∈ gc_d σ ∨ gc_A θ a) ∧ (∀ a, (a ∈ gc_d σ ∨ ¬ gc_A θ a) → gc_k σ' a = gc_k σ a ∧ gc_n σ' a = gc_n σ a) ∧ ∀ a, (a ∈ gc_d σ ∨ ¬ gc_A θ a) → ¬ S a → cs_ σ σ' a
theorem cx.refl {θ : gc_T} {S : Nat → Prop} (σ : gc_S) : cx θ S σ σ := ⟨fun _ h => h, fun _ h => Or.inl h, fun _ _ => ⟨rfl, rfl⟩, fun a _ _ => cs_.refl σ a⟩
theorem cx.trans {θ : gc_T} {S S' : Nat → Prop} {σ σ1 σ2 : gc_S} (h : cx θ S σ σ1) (k : cx θ S' σ1 σ2) (hs : ∀ a, S' a → S a ∨ (a ∉ gc_d σ ∧ gc_A θ a)) : cx θ S σ σ2 := by
  have up : ∀ a, (a ∈ gc_d σ ∨ ¬ gc_A θ a) → (a ∈ gc_d σ1 ∨ ¬ gc_A θ a) := fun a ha => ha.imp (h.1 a) id
  refine ⟨fun a ha => k.1 a (h.1 a ha), fun a ha => ?_, fun a ha => ?_, fun a ha hS => ?_⟩
  · rcases k.2.1 a ha with q | q
    · exact h.2.1 a q
    · exact Or.inr q
  · have h1 := h.2.2.1 a ha
    have h2 := k.2.2.1 a (up a ha)
    exact ⟨h2.1.trans h1.1, h2.2.trans h1.2⟩
  · refine (h.2.2.2 a ha hS).trans (k.2.2.2 a (up a ha) (fun q => ?_))
    rcases hs a q with q | q
    · exact hS q
    · rcases ha with z | z
      · exact q.1 z
      · exact z q.2
theorem cx.trans' {θ : gc_T} {S : Nat → Prop} {σ σ1 σ2 : gc_S} (h : cx θ S σ σ1) (k : cx θ S σ1 σ2) : cx θ S σ σ2 := h.trans k (fun _ q => Or.inl q)
theorem cx.mono {θ : gc_T} {S S' : Nat → Prop} {σ σ' : gc_S} (h : cx θ S σ σ') (k : ∀ a, (a ∈ gc_d σ ∨ ¬ gc_A θ a) → S a → S' a) : cx θ S' σ σ' := ⟨h.1, h.2.1, h.2.2.1, fun a ha hS => h.2.2.2 a ha (fun q => hS (k a ha q))⟩
theorem cx_sI {θ : gc_T} (σ : gc_S) (f a : Nat) (v : Int32) : cx θ (· = a) σ (gc_sI σ f a v) := ⟨fun _ h => h, fun _ h => Or.inl h, fun _ _ => ⟨rfl, rfl⟩, fun b _ hb => ⟨rfl, rfl, rfl, rfl, fun g _ => by rw [rd_I_sI, if_neg (fun z => hb z.2)], fun _ => rfl⟩⟩
theorem cx_w {θ : gc_T} {S : Nat → Prop} (σ : gc_S) (a : Nat) (v : Int32) : cx θ S σ (gc_sI σ 809 a v) := ⟨fun _ h => h, fun _ h => Or.inl h, fun _ _ => ⟨rfl, rfl⟩, fun b _ _ => ⟨rfl, rfl, rfl, rfl, fun g hg => by rw [rd_I_sI, if_neg (fun z => hg z.1)], fun _ => rfl⟩⟩
theorem cx_sR {θ : gc_T} (σ : gc_S) (f a : Nat) (r : Option Nat) : cx θ (· = a) σ (gc_sR σ f a r) := ⟨fun _ h => h, fun _ h => Or.inl h, fun _ _ => ⟨rfl, rfl⟩, fun b _ hb => ⟨rfl, rfl, rfl, rfl, fun _ _ => rfl, fun g => by rw [rd_R_sR, if_neg (fun z => hb z.2)]⟩⟩
theorem cx_sE {θ : gc_T} (σ : gc_S) (a i : Nat) (v : Int32) : cx θ (· = a) σ (gc_sE σ a i v) := ⟨fun _ h => h, fun _ h => Or.inl h, fun _ _ => ⟨rfl, rfl⟩, fun b _ hb => ⟨rfl, rfl, va_up_ne _ _ hb, rfl, fun _ _ => rfl, fun _ => rfl⟩⟩
theorem cx_sQ {θ : gc_T} (σ : gc_S) (a i : Nat) (r : Option Nat) : cx θ (· = a) σ (gc_sQ σ a i r) := ⟨fun _ h => h, fun _ h => Or.inl h, fun _ _ => ⟨rfl, rfl⟩, fun b _ hb => ⟨rfl, rfl, rfl, va_up_ne _ _ hb, fun _ _ => rfl, fun _ => rfl⟩⟩
theorem cx_cE {θ : gc_T} (σ : gc_S) (a0 a sp dp n : Nat) : cx θ (· = a) σ (gc_cE σ a0 a sp dp n) := ⟨fun _ h => h, fun _ h => Or.inl h, fun _ _ => ⟨rfl, rfl⟩, fun b _ hb => ⟨rfl, rfl, va_up_ne _ _ hb, rfl, fun _ _ => rfl, fun _ => rfl⟩⟩
theorem cx_cQ {θ : gc_T} (σ : gc_S) (a0 a sp dp n : Nat) : cx θ (· = a) σ (gc_cQ σ a0 a sp dp n) := ⟨fun _ h => h, fun _ h => Or.inl h, fun _ _ => ⟨rfl, rfl⟩, fun b _ hb => ⟨rfl, rfl, rfl, va_up_ne _ _ hb, fun _ _ => rfl, fun _ => rfl⟩⟩
theorem cx_new {θ : gc_T} {S : Nat → Prop} (σ : gc_S) {a : Nat} (k n : Nat) (ha : a ∉ gc_d σ) (hA : gc_A θ a) : cx θ S σ (gc_new σ a k n) := by
  have ne : ∀ b, (b ∈ gc_d σ ∨ ¬ gc_A θ b) → b ≠ a := fun b hb z => by
    subst z
    rcases hb with z | z
    · exact ha z
    · exact z hA
  refine ⟨fun b hb => List.mem_append_left _ hb, fun b hb => ?_, fun b hb => ?_, fun b hb _ => ?_⟩
  · rw [rd_d_new, List.mem_append, List.mem_singleton] at hb
    rcases hb with z | z
    · exact Or.inl z
    · exact Or.inr (z ▸ hA)
  · rw [rd_k_new, rd_n_new, if_neg (ne b hb), if_neg (ne b hb)]; exact ⟨rfl, rfl⟩
  · exact ⟨va_up_ne _ _ (ne b hb), va_up_ne _ _ (ne b hb), va_up_ne _ _ (ne b hb), va_up_ne _ _ (ne b hb), fun _ _ => if_neg (ne b hb), fun _ => if_neg (ne b hb)⟩
theorem cx.is {θ : gc_T} {S : Nat → Prop} {σ σ' : gc_S} {a k : Nat} (h : cx θ S σ σ') (ha : gc_is σ a k) : gc_is σ' a k := ⟨h.1 a ha.1, by rw [(h.2.2.1 a (Or.inl ha.1)).1]; exact ha.2⟩
theorem cx.isN {θ : gc_T} {S : Nat → Prop} {σ σ' : gc_S} {a : Nat} (h : cx θ S σ σ') (ha : gc_isN σ a) : gc_isN σ' a := ⟨h.1 a ha.1, by rw [(h.2.2.1 a (Or.inl ha.1)).1]; exact ha.2⟩
theorem cx.isV {θ : gc_T} {S : Nat → Prop} {σ σ' : gc_S} {a : Nat} (h : cx θ S σ σ') (ha : gc_isV θ σ a) : gc_isV θ σ' a := by
  rcases ha with q | q | q
  · exact Or.inl (h.isN q)
  · exact Or.inr (Or.inl (h.is q))
  · exact Or.inr (Or.inr q)
/-- the two empty arrays are no cells of ours -/
def cTh (θ : gc_T) : Prop := ¬ gc_A θ (gc_aE θ) ∧ ¬ gc_A θ (gc_aD θ)
/-- a row of bytes -/
def cB (θ : gc_T) (σ : gc_S) (L : Nat → Prop) (a : Nat) (bs : List Nat) : Prop := (a = gc_aE θ ∧ gc_n σ a = 0 ∧ bs = []) ∨ (L a ∧ gc_is σ a 15 ∧ gc_n σ a = bs.length ∧ ∀ j, j < bs.length → gc_E σ a j = sb_b (bs.getD j 0))
theorem cB.isB {θ : gc_T} {σ : gc_S} {L : Nat → Prop} {a : Nat} {bs : List Nat} (h : cB θ σ L a bs) : gc_isB θ σ a := by
  rcases h with h | h
  · exact Or.inr ⟨h.1, h.2.1⟩
  · exact Or.inl h.2.1
theorem cB.n {θ : gc_T} {σ : gc_S} {L : Nat → Prop} {a : Nat} {bs : List Nat} (h : cB θ σ L a bs) : gc_n σ a = bs.length := by
  rcases h with h | h
  · rw [h.2.1, h.2.2]; rfl
  · exact h.2.2.1
theorem cB.at {θ : gc_T} {σ : gc_S} {L : Nat → Prop} {a : Nat} {bs : List Nat} (h : cB θ σ L a bs) {j : Nat} (hj : j < bs.length) : gc_is σ a 15 ∧ gc_E σ a j = sb_b (bs.getD j 0) := by
  rcases h with h | h
  · rw [h.2.2] at hj; exact absurd hj (Nat.not_lt_zero _)
  · exact ⟨h.2.1, h.2.2.2 j hj⟩
theorem cB.cx {θ : gc_T} {S : Nat → Prop} {σ σ' : gc_S} {L : Nat → Prop} {a : Nat} {bs : List Nat} (h : cB θ σ L a bs) (hθ : cTh θ) (k : cx θ S σ σ') (hS : ∀ q, S q → gc_k σ q = 15 → ¬ L q) : cB θ σ' L a bs := by
  rcases h with h | h
  · exact Or.inl ⟨h.1, by rw [(k.2.2.1 a (Or.inr (h.1 ▸ hθ.1))).2]; exact h.2.1, h.2.2⟩
  · have hs : cs_ σ σ' a := k.2.2.2 a (Or.inl h.2.1.1) (fun q => hS a q h.2.1.2 h.1)
    exact Or.inr ⟨h.1, k.is h.2.1, by rw [hs.2.1]; exact h.2.2.1, fun j hj => by rw [hs.2.2.1]; exact h.2.2.2 j hj⟩
theorem cB.mono {θ : gc_T} {σ : gc_S} {L L' : Nat → Prop} {a : Nat} {bs : List Nat} (h : cB θ σ L a bs) (k : ∀ q, L q → L' q) : cB θ σ L' a bs := by
  rcases h with h | h
  · exact Or.inl h
  · exact Or.inr ⟨k _ h.1, h.2⟩
/-- a list: its cell, whose it is, what it holds -/
def cL (θ : gc_T) (σ : gc_S) (ow : Nat → Nat) (o c : Nat) (ch : List Nat) : Prop := ow c = o ∧ gc_is σ c 12 ∧ gc_I σ 1202 c = nI ch.length ∧ ∃ r, gc_R σ 1201 c = some r ∧ ((r = gc_aD θ ∧ gc_n σ r = 0 ∧ ch = []) ∨ (ow r = o ∧ gc_is σ r 20 ∧ ch.length ≤ gc_n σ r ∧ gc_n σ r ≤ 60 ∧ 10 ≤ gc_n σ r ∧ (∀ j, j < ch.length → gc_Q σ r j = some (ch.getD j 0)) ∧ ∀ j y, gc_Q σ r j = some y → gc_isV θ σ y))
theorem cL.cx {θ : gc_T} {S : Nat → Prop} {σ σ' : gc_S} {ow ow' : Nat → Nat} {o c : Nat} {ch : List Nat} (h : cL θ σ ow o c ch) (hθ : cTh θ) (k : cx θ S σ σ') (hS : ∀ q, S q → (gc_k σ q = 12 ∨ gc_k σ q = 20) → ow q ≠ o) (hw : ∀ q, q ∈ gc_d σ → ow q = o → ow' q = o) : cL θ σ' ow' o c ch := by
  obtain ⟨h1, h2, h3, r, h4, h5⟩ := h
  have hs : cs_ σ σ' c := k.2.2.2 c (Or.inl h2.1) (fun q => hS c q (Or.inl h2.2) h1)
  refine ⟨hw c h2.1 h1, k.is h2, by rw [hs.2.2.2.2.1 1202 (by decide)]; exact h3, r, by rw [hs.2.2.2.2.2]; exact h4, ?_⟩
  rcases h5 with h5 | ⟨a1, a2, a3, a4, a5, a6, a7⟩
  · exact Or.inl ⟨h5.1, by rw [(k.2.2.1 r (Or.inr (h5.1 ▸ hθ.2))).2]; exact h5.2.1, h5.2.2⟩
  · have hr : cs_ σ σ' r := k.2.2.2 r (Or.inl a2.1) (fun q => hS r q (Or.inr a2.2) a1)
    refine Or.inr ⟨hw r a2.1 a1, k.is a2, by rw [hr.2.1]; exact a3, by rw [hr.2.1]; exact a4, by rw [hr.2.1]; exact a5, fun j hj => by rw [hr.2.2.2.1]; exact a6 j hj, fun j y hy => ?_⟩
    rw [hr.2.2.2.1] at hy
    exact k.isV (a7 j y hy)
theorem cL.len {θ : gc_T} {σ : gc_S} {ow : Nat → Nat} {o c : Nat} {ch : List Nat} (h : cL θ σ ow o c ch) : ch.length ≤ 60 := by
  obtain ⟨h1, h2, h3, r, h4, h5⟩ := h
  rcases h5 with h5 | h5
  · rw [h5.2.2]; exact Nat.zero_le _
  · have := h5.2.2.1; have := h5.2.2.2.1; omega
/-- a node: its name, kind, label, text; its children -/
def cN (θ : gc_T) (σ : gc_S) (ow : Nat → Nat) (L : Nat → Prop) (a : Nat) (r : rw_) (ch : List Nat) : Prop := ow a = a ∧ a ∈ gc_d σ ∧ gc_k σ a = 8 + rw_k r ∧ rw_k r ≤ 3 ∧ gc_I σ 800 a = nI (rw_a r) ∧ (∃ b, gc_R σ 801 a = some b ∧ cB θ σ L b (rw_l r)) ∧ (∃ b, gc_R σ 802 a = some b ∧ cB θ σ L b (rw_t r)) ∧ ∃ c, gc_R σ 804 a = some c ∧ cL θ σ ow a c ch
theorem cN.isN {θ : gc_T} {σ : gc_S} {ow : Nat → Nat} {L : Nat → Prop} {a : Nat} {r : rw_} {ch : List Nat} (h : cN θ σ ow L a r ch) : gc_isN σ a := ⟨h.2.1, by have := h.2.2.1; have := h.2.2.2.1; omega⟩
theorem cN.cx {θ : gc_T} {S : Nat → Prop} {σ σ' : gc_S} {ow ow' : Nat → Nat} {L L' : Nat → Prop} {a : Nat} {r : rw_} {ch : List Nat} (h : cN θ σ ow L a r ch) (hθ : cTh θ) (k : cx θ S σ σ') (hS : ∀ q, S q → ow q ≠ a ∧ (gc_k σ q = 15 → ¬ L q)) (hw : ∀ q, q ∈ gc_d σ → ow q = a → ow' q = a) (hL : ∀ q, L q → L' q) : cN θ σ' ow' L' a r ch := by
  obtain ⟨h1, h2, h3, h4, h5, ⟨b1, h6, h7⟩, ⟨b2, h8, h9⟩, c, h10, h11⟩ := h
  have hs : cs_ σ σ' a := k.2.2.2 a (Or.inl h2) (fun q => (hS a q).1 h1)
  exact ⟨hw a h2 h1, k.1 a h2, by rw [hs.1]; exact h3, h4, by rw [hs.2.2.2.2.1 800 (by decide)]; exact h5, ⟨b1, by rw [hs.2.2.2.2.2]; exact h6, (h7.cx hθ k (fun q z y => (hS q z).2 y)).mono hL⟩, ⟨b2, by rw [hs.2.2.2.2.2]; exact h8, (h9.cx hθ k (fun q z y => (hS q z).2 y)).mono hL⟩, c, by rw [hs.2.2.2.2.2]; exact h10, h11.cx hθ k (fun q z _ => (hS q z).1) hw⟩
/-- the owner of a cell is a cell -/
def oc (σ : gc_S) (ow : Nat → Nat) : Prop := ∀ q, q ∈ gc_d σ → ow q ∈ gc_d σ
theorem oc.new {σ σ' : gc_S} {ow : Nat → Nat} {q o : Nat} (h : oc σ ow) (hd : gc_d σ' = gc_d σ ++ [q]) (ho : o ∈ gc_d σ ∨ o = q) : oc σ' (fun x => if x = q then o else ow x) := by
  intro x hx
  rw [hd, List.mem_append, List.mem_singleton] at hx ⊢
  by_cases e : x = q
  · show (if x = q then o else ow x) ∈ _ ∨ (if x = q then o else ow x) = q
    rw [if_pos e]; exact ho
  · show (if x = q then o else ow x) ∈ _ ∨ (if x = q then o else ow x) = q
    rw [if_neg e]; exact Or.inl (h x (hx.resolve_right e))
theorem oc.same {σ σ' : gc_S} {ow : Nat → Nat} (h : oc σ ow) (hd : gc_d σ' = gc_d σ) : oc σ' ow := by
  intro x hx
  rw [hd] at hx ⊢
  exact h x hx
