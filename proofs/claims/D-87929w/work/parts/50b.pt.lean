/-! put(): the model -/
theorem lg_le {a b n : Nat} (h1 : a < 2 ^ 31) (h2 : b < 2 ^ 31) (h3 : n < 2 ^ 31) {A B : Prop} (f : a + b ≤ n → A) (g : n < a + b → B) : (lg_cmp ((nI a).toInt64 + (nI b).toInt64) (nI n).toInt64 ≤ 0 → A) ∧ (¬ lg_cmp ((nI a).toInt64 + (nI b).toInt64) (nI n).toInt64 ≤ 0 → B) := by
  rw [nI_l h1, nI_l h2, nI_l h3]
  have e : lN a + lN b = lN (a + b) := by
    unfold lN
    exact (Int64.ofNat_add a b).symm
  rw [e]
  unfold lg_cmp
  have hle : lN (a + b) ≤ lN n ↔ a + b ≤ n := pk_lLE (by omega) (by omega)
  by_cases c : a + b ≤ n
  · have hn : ¬ lN (a + b) > lN n := Int64.not_lt.mpr (hle.mpr c)
    rw [if_neg hn]
    refine ⟨fun _ => f c, fun z => absurd ?_ z⟩
    split <;> decide
  · have hn : lN (a + b) > lN n := Int64.not_le.mp (fun z => c (hle.mp z))
    rw [if_pos hn]
    exact ⟨fun z => absurd z (by decide), fun _ => g (by omega)⟩
/-- only place 9's rows are written -/
def e9 (X X' : gm_X) : Prop := X'.1 = X.1 ∧ (∀ b, b ≠ 0 → X'.2 b = X.2 b) ∧ ∀ p k w, p ≠ 9 → k < 30 → w < 19 → ma_nd X' p k w = ma_nd X p k w
theorem e9.refl (X : gm_X) : e9 X X := ⟨rfl, fun _ _ => rfl, fun _ _ _ _ _ _ => rfl⟩
theorem e9.set {X X' : gm_X} {k w : Nat} {v : Int32} (h : e9 X X') (hk : k < 30) (hw : w < 19) : e9 X (gm_pA X' 0 (19 * (30 * 9 + k) + w) v) :=
  ⟨h.1, fun b hb => by rw [ma_pA_ne hb]; exact h.2.1 b hb, fun p j u hp hj hu => by rw [ma_nd_set hk hw hj hu, if_neg (fun y => hp y.1)]; exact h.2.2 p j u hp hj hu⟩
theorem e9.car {X X' X'' : gm_X} {p i k : Nat} (h : e9 X X') (c : ma_car X' X'' p i 9 k) : e9 X X'' :=
  ⟨c.1.trans h.1, fun b hb => (c.2.1 b hb).trans (h.2.1 b hb), fun q j u hq hj hu => (c.2.2.2 q j u (fun y => hq y.1) hj hu).trans (h.2.2 q j u hq hj hu)⟩
theorem e9.ms {X X' : gm_X} (h : e9 X X') : ms_fr X X' := ⟨fun f _ => by rw [h.1], fun a ha => h.2.1 a (by rintro rfl; simp at ha), fun p _ => by rw [h.2.1 1 (by decide)], fun p i w hp hi hw => h.2.2 p i w (by omega) hi hw⟩
theorem ma_mr.up {X : gm_X} {p i q : Nat} {r : rw_} {v : Int32} (h : ma_mr X q i r) (ho : rw_ok r) (hi : i < 30) (hv : v = nI (rw_d r + 1)) : ma_mr (gm_pA X 0 (19 * (30 * q + i) + 2) v) q i (rw_up r) := by
  have e : ∀ w, w < 19 → w ≠ 2 → ma_nd (gm_pA X 0 (19 * (30 * q + i) + 2) v) q i w = ma_nd X q i w := fun w hw h2 => by rw [ma_nd_set hi (by decide) hi hw, if_neg (fun y => h2 y.2.2)]
  have l1 := ho.2.2.2.1
  have l2 := ho.2.2.2.2.2.1
  refine ⟨by rw [e 0 (by decide) (by decide)]; exact h.1, by rw [e 1 (by decide) (by decide)]; exact h.2.1, by rw [ma_nd_set hi (by decide) hi (by decide), if_pos ⟨rfl, rfl, rfl⟩]; exact hv, ⟨by rw [e 3 (by decide) (by decide)]; exact h.2.2.2.1.1, fun u hu => ?_⟩, ⟨by rw [e 10 (by decide) (by decide)]; exact h.2.2.2.2.1, fun u hu => ?_⟩⟩
  · have hu : u < (rw_l r).length := hu
    rw [e _ (by omega) (by omega)]; exact h.2.2.2.1.2 u hu
  · have hu : u < (rw_t r).length := hu
    rw [e _ (by omega) (by omega)]; exact h.2.2.2.2.2 u hu
