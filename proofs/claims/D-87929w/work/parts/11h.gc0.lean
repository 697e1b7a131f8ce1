/-! what is read behind what was written -/
theorem rd_d_sI (σ : gc_S) (f a : Nat) (v : Int32) : gc_d (gc_sI σ f a v) = gc_d σ := rfl
theorem rd_d_sR (σ : gc_S) (f a : Nat) (r : Option Nat) : gc_d (gc_sR σ f a r) = gc_d σ := rfl
theorem rd_d_sE (σ : gc_S) (a i : Nat) (v : Int32) : gc_d (gc_sE σ a i v) = gc_d σ := rfl
theorem rd_d_sQ (σ : gc_S) (a i : Nat) (r : Option Nat) : gc_d (gc_sQ σ a i r) = gc_d σ := rfl
theorem rd_k_sI (σ : gc_S) (f a : Nat) (v : Int32) : gc_k (gc_sI σ f a v) = gc_k σ := rfl
theorem rd_k_sR (σ : gc_S) (f a : Nat) (r : Option Nat) : gc_k (gc_sR σ f a r) = gc_k σ := rfl
theorem rd_k_sE (σ : gc_S) (a i : Nat) (v : Int32) : gc_k (gc_sE σ a i v) = gc_k σ := rfl
theorem rd_k_sQ (σ : gc_S) (a i : Nat) (r : Option Nat) : gc_k (gc_sQ σ a i r) = gc_k σ := rfl
theorem rd_I_sI (σ : gc_S) (f a : Nat) (v : Int32) (g x : Nat) : gc_I (gc_sI σ f a v) g x = if g = f ∧ x = a then v else gc_I σ g x := rfl
theorem rd_I_sR (σ : gc_S) (f a : Nat) (r : Option Nat) : gc_I (gc_sR σ f a r) = gc_I σ := rfl
theorem rd_I_sE (σ : gc_S) (a i : Nat) (v : Int32) : gc_I (gc_sE σ a i v) = gc_I σ := rfl
theorem rd_I_sQ (σ : gc_S) (a i : Nat) (r : Option Nat) : gc_I (gc_sQ σ a i r) = gc_I σ := rfl
theorem rd_R_sI (σ : gc_S) (f a : Nat) (v : Int32) : gc_R (gc_sI σ f a v) = gc_R σ := rfl
theorem rd_R_sR (σ : gc_S) (f a : Nat) (r : Option Nat) (g x : Nat) : gc_R (gc_sR σ f a r) g x = if g = f ∧ x = a then r else gc_R σ g x := rfl
theorem rd_R_sE (σ : gc_S) (a i : Nat) (v : Int32) : gc_R (gc_sE σ a i v) = gc_R σ := rfl
theorem rd_R_sQ (σ : gc_S) (a i : Nat) (r : Option Nat) : gc_R (gc_sQ σ a i r) = gc_R σ := rfl
theorem rd_E_sI (σ : gc_S) (f a : Nat) (v : Int32) : gc_E (gc_sI σ f a v) = gc_E σ := rfl
theorem rd_E_sR (σ : gc_S) (f a : Nat) (r : Option Nat) : gc_E (gc_sR σ f a r) = gc_E σ := rfl
theorem rd_E_sE (σ : gc_S) (a i : Nat) (v : Int32) (x j : Nat) : gc_E (gc_sE σ a i v) x j = if x = a ∧ j = i then v else gc_E σ x j := by
  show va_up (gc_E σ) a (upd (gc_E σ a) i v) x j = _
  unfold va_up upd
  by_cases h1 : x = a
  · subst h1; simp
  · simp [h1]
theorem rd_E_sQ (σ : gc_S) (a i : Nat) (r : Option Nat) : gc_E (gc_sQ σ a i r) = gc_E σ := rfl
theorem rd_Q_sI (σ : gc_S) (f a : Nat) (v : Int32) : gc_Q (gc_sI σ f a v) = gc_Q σ := rfl
theorem rd_Q_sR (σ : gc_S) (f a : Nat) (r : Option Nat) : gc_Q (gc_sR σ f a r) = gc_Q σ := rfl
theorem rd_Q_sE (σ : gc_S) (a i : Nat) (v : Int32) : gc_Q (gc_sE σ a i v) = gc_Q σ := rfl
theorem rd_Q_sQ (σ : gc_S) (a i : Nat) (r : Option Nat) (x j : Nat) : gc_Q (gc_sQ σ a i r) x j = if x = a ∧ j = i then r else gc_Q σ x j := by
  show va_up (gc_Q σ) a (va_up (gc_Q σ a) i r) x j = _
  unfold va_up
  by_cases h1 : x = a
  · subst h1; simp
  · simp [h1]
theorem rd_n_sI (σ : gc_S) (f a : Nat) (v : Int32) : gc_n (gc_sI σ f a v) = gc_n σ := rfl
theorem rd_n_sR (σ : gc_S) (f a : Nat) (r : Option Nat) : gc_n (gc_sR σ f a r) = gc_n σ := rfl
theorem rd_n_sE (σ : gc_S) (a i : Nat) (v : Int32) : gc_n (gc_sE σ a i v) = gc_n σ := rfl
theorem rd_n_sQ (σ : gc_S) (a i : Nat) (r : Option Nat) : gc_n (gc_sQ σ a i r) = gc_n σ := rfl
theorem rd_d_new (σ : gc_S) (a k n : Nat) : gc_d (gc_new σ a k n) = gc_d σ ++ [a] := rfl
theorem rd_k_new (σ : gc_S) (a k n x : Nat) : gc_k (gc_new σ a k n) x = if x = a then k else gc_k σ x := by
  show va_up (gc_k σ) a k x = _
  unfold va_up; rfl
theorem rd_n_new (σ : gc_S) (a k n x : Nat) : gc_n (gc_new σ a k n) x = if x = a then n else gc_n σ x := by
  show va_up (gc_n σ) a n x = _
  unfold va_up; rfl
theorem rd_I_new (σ : gc_S) (a k n f x : Nat) : gc_I (gc_new σ a k n) f x = if x = a then 0 else gc_I σ f x := rfl
theorem rd_R_new (σ : gc_S) (a k n f x : Nat) : gc_R (gc_new σ a k n) f x = if x = a then none else gc_R σ f x := rfl
theorem rd_E_new (σ : gc_S) (a k n x j : Nat) : gc_E (gc_new σ a k n) x j = if x = a then 0 else gc_E σ x j := by
  show va_up (gc_E σ) a (fun _ => 0) x j = _
  unfold va_up
  by_cases h1 : x = a <;> simp [h1]
theorem rd_Q_new (σ : gc_S) (a k n x j : Nat) : gc_Q (gc_new σ a k n) x j = if x = a then none else gc_Q σ x j := by
  show va_up (gc_Q σ) a (fun _ => none) x j = _
  unfold va_up
  by_cases h1 : x = a <;> simp [h1]
