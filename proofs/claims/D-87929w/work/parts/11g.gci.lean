/-! Integers: ours and the cached ones; Throwable's statics -/
section GCI
variable {θ : gc_T} {K : gx_K} {M : gx_M} {Post : Outcome → gc_S → Prop} {pc : Nat} {L : List (Nat × Value)} {st : List Value} {σ : gc_S} {bc bs : Nat} {a : Nat}
def gc_isI (θ : gc_T) (σ : gc_S) (a : Nat) : Prop := gc_is σ a 13 ∨ ∃ i, i < 256 ∧ a = gc_ch θ i
theorem gc_recvI (h : gc_K θ K M) (ha : gc_isI θ σ a) : ∀ H, gx_w (gc_O θ) σ H → ∃ cell : Cell, H[a]? = some cell ∧ cell.vm.isStatics = false ∧ (gx_s K).vm.findClass "java/lang/Integer" = some cell.cls := by
  rcases ha with ha | ⟨i, hi, rfl⟩
  · exact gc_recv h (k := 13) (r := (RJ16, TJ16, 1)) rfl ha (by decide)
  · exact fun H hw => va_recv h.2.2.2.2.2.2.2.1.1 (gc_chP h.2.2.2.2.2.2.2.1.2.2.1 hw hi) (q := (RJ16, TJ16, 1)) (ci := 13) rfl (q0 := 0) rfl
theorem gc_high (h : gc_K θ K M) {own : String} {i : Nat} (hc : (gx_My M).cls = own) (q1 : Cond.fieldLink own i "java/lang/Integer$IntegerCache" "high" "I" ∈ lw_all) (d : decode (gx_Mc M) pc = .ok (.getstatic i, 3)) (k : gc_G θ K M Post (pc + 3) L (.int 127 :: st) σ bc bs) : gc_G θ K M Post pc L st σ bc bs :=
  fun H locs ls c n hL hw hS e1 e2 => va_gets h.1 h.2.1 (h.2.2.2.2.2.2.2.1.2.2.2.1 _ (gc_same h)).2.2.2.2.1 hS (hc ▸ h.2.2.2.1) (h.2.2.2.2.1 _ q1) (fun _ h9 => h9) d (k H locs ls c n hL hw hS e1 e2)
theorem gc_cache (h : gc_K θ K M) {own : String} {i : Nat} (hc : (gx_My M).cls = own) (q1 : Cond.fieldLink own i "java/lang/Integer$IntegerCache" "cache" "[Ljava/lang/Integer;" ∈ lw_all) (d : decode (gx_Mc M) pc = .ok (.getstatic i, 3)) (k : gc_G θ K M Post (pc + 3) L (va_rf (some (gc_aC θ)) :: st) σ bc bs) : gc_G θ K M Post pc L st σ bc bs :=
  fun H locs ls c n hL hw hS e1 e2 => va_gets h.1 h.2.1 (h.2.2.2.2.2.2.2.1.2.2.2.1 _ (gc_same h)).2.2.2.2.2 hS (hc ▸ h.2.2.2.1) (h.2.2.2.2.1 _ q1) (fun _ h9 => h9) d (k H locs ls c n hL hw hS e1 e2)
theorem gc_unas (h : gc_K θ K M) {own : String} {i : Nat} (hc : (gx_My M).cls = own) (q1 : Cond.fieldLink own i "java/lang/Throwable" "UNASSIGNED_STACK" "[Ljava/lang/StackTraceElement;" ∈ lw_all) (d : decode (gx_Mc M) pc = .ok (.getstatic i, 3)) (k : gc_G θ K M Post (pc + 3) L (va_rf (gc_aU θ) :: st) σ bc bs) : gc_G θ K M Post pc L st σ bc bs :=
  fun H locs ls c n hL hw hS e1 e2 => va_gets h.1 h.2.1 (h.2.2.2.2.2.2.2.1.2.2.2.1 _ (gc_same h)).2.2.1 hS (hc ▸ h.2.2.2.1) (h.2.2.2.2.1 _ q1) (fun _ h9 => h9) d (k H locs ls c n hL hw hS e1 e2)
theorem gc_aC_P {H : Heap} (hth : gc_th θ) (hw : gc_w θ σ H) : va_P (gc_D θ) gc_cl [(gc_aC θ, .inl (gc_c θ 21, 256, .inr (.inr (.inr (.inr (fun i => some (gc_ch θ i)))))))] H := fun k q hq => by
  match k, hq with
  | 0, hq =>
    cases hq
    have h1 : (gc_H θ)[gc_aC θ]? = some (vp_cell (gc_c θ 21) (256, .inr (.inr (.inr (.inr (fun i => some (gc_ch θ i))))))) := hth.2.2.1 0 _ rfl
    show H[gc_aC θ]? = _
    rw [hw.2.2.2.2.2 _ (Array.getElem?_eq_some_iff.mp h1).1]
    exact h1
  | k + 1, hq => simp at hq
theorem gc_aaldC (h : gc_K θ K M) {i : Int32} (hi : vp_in i 256) (d : decode (gx_Mc M) pc = .ok (.aaload, 1)) (kk : gc_G θ K M Post (pc + 1) L (va_rf (some (gc_ch θ i.toNatClampNeg)) :: st) σ bc bs) : gc_G θ K M Post pc L (.int i :: va_rf (some (gc_aC θ)) :: st) σ bc bs :=
  fun H locs ls c n hL hw hS e1 e2 => va_aldq h.1 h.2.1 h.2.2.2.2.2.2.2.1.1 (gc_aC_P h.2.2.2.2.2.2.2.1.2.2.1 hw) 0 7 rfl rfl hi d (kk H locs ls c n hL hw hS e1 e2)
theorem gc_castI (h : gc_K θ K M) {own : String} {i : Nat} (hc : (gx_My M).cls = own) (q1 : Cond.classLink own i "java/lang/Integer" ∈ lw_all) {r : Option Nat} (ha : ∀ a, r = some a → gc_isI θ σ a) (d : decode (gx_Mc M) pc = .ok (.checkcast i, 3)) (k : gc_G θ K M Post (pc + 3) L (va_rf r :: st) σ bc bs) : gc_G θ K M Post pc L (va_rf r :: st) σ bc bs := by
  cases r with
  | none => exact fun H locs ls c n hL hw hS e1 e2 => lv_castN h.1 h.2.1 d (k H locs ls c n hL hw hS e1 e2)
  | some v => exact fun H locs ls c n hL hw hS e1 e2 => va_castE h.1 h.2.1 h.2.2.2.1 (h.2.2.2.2.1 _ (hc ▸ q1)) (gc_recvI h (ha v rfl) H hw) d (k H locs ls c n hL hw hS e1 e2)
end GCI
