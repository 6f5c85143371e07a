/-! PURE: copies, counts -/
theorem cpy_0 {f g : Nat → Int32} {sp dp : Nat} : va_cpy f g sp dp 0 = g := by
  funext j
  unfold va_cpy
  rw [if_neg (by omega)]
theorem cpy_step {f g : Nat → Int32} {sp dp i : Nat} : upd (va_cpy f g sp dp i) (dp + i) (f (sp + i)) = va_cpy f g sp dp (i + 1) := by
  funext j
  by_cases hj : j = dp + i
  · subst hj
    rw [pk_us]
    unfold va_cpy
    rw [if_pos (by omega), Nat.add_sub_cancel_left]
  · rw [pk_un hj]
    unfold va_cpy
    by_cases h : dp ≤ j ∧ j < dp + i
    · rw [if_pos h, if_pos (by omega)]
    · rw [if_neg h, if_neg (by omega)]
theorem cpy_L {f g : Nat → Int32} {sp dp : Nat} (N : Nat) (W : Nat → (Nat → Int32) → Prop) (hx : W N (va_cpy f g sp dp N)) (hs : ∀ i q, i < N → W (i + 1) (upd q (dp + i) (f (sp + i))) → W i q) : W 0 g := by
  have key : ∀ m i, i + m = N → W i (va_cpy f g sp dp i) := by
    intro m
    induction m with
    | zero => intro i hi; obtain rfl : i = N := by omega
              exact hx
    | succ m ih =>
      intro i hi
      refine hs i _ (by omega) ?_
      rw [cpy_step]
      exact ih (i + 1) (by omega)
  have := key N 0 (by omega)
  rwa [cpy_0] at this
theorem cpy_S {g : Nat → Int32} {sp dp : Nat} (hd : dp ≤ sp) (N : Nat) (W : Nat → (Nat → Int32) → Prop) (hx : W N (va_cpy g g sp dp N)) (hs : ∀ i q, i < N → q (sp + i) = g (sp + i) → W (i + 1) (upd q (dp + i) (g (sp + i))) → W i q) : W 0 g := by
  have key : ∀ m i, i + m = N → W i (va_cpy g g sp dp i) := by
    intro m
    induction m with
    | zero => intro i hi; obtain rfl : i = N := by omega
              exact hx
    | succ m ih =>
      intro i hi
      refine hs i _ (by omega) ?_ ?_
      · unfold va_cpy
        rw [if_neg (by omega)]
      · rw [cpy_step]
        exact ih (i + 1) (by omega)
  have := key N 0 (by omega)
  rwa [cpy_0] at this
theorem xA_xA (X : pmXs) (a : Nat) (f g : Nat → Int32) : xA (xA X a f) a g = xA X a g := by
  show (X.1, X.2.1, va_up (va_up X.2.2.1 a f) a g, X.2.2.2) = (X.1, X.2.1, va_up X.2.2.1 a g, X.2.2.2)
  rw [bx_uu]
theorem mA_mA (M : pmMs) (a : Nat) (f g : Nat → Int32) : mA (mA M a f) a g = mA M a g := by
  show (M.1, M.2.1, M.2.2.1, va_up (va_up M.2.2.2.1 a f) a g, M.2.2.2.2) = (M.1, M.2.1, M.2.2.1, va_up M.2.2.2.1 a g, M.2.2.2.2)
  rw [bx_uu]
theorem xA_self (X : pmXs) (a : Nat) : xA X a (xa X a) = X := by
  show (X.1, X.2.1, va_up X.2.2.1 a (X.2.2.1 a), X.2.2.2) = X
  have : va_up X.2.2.1 a (X.2.2.1 a) = X.2.2.1 := by
    funext j; unfold va_up; by_cases h : j = a
    · rw [if_pos h, h]
    · rw [if_neg h]
  rw [this]
theorem mA_self (M : pmMs) (a : Nat) : mA M a (ma M a) = M := by
  show (M.1, M.2.1, M.2.2.1, va_up M.2.2.2.1 a (M.2.2.2.1 a), M.2.2.2.2) = M
  have : va_up M.2.2.2.1 a (M.2.2.2.1 a) = M.2.2.2.1 := by
    funext j; unfold va_up; by_cases h : j = a
    · rw [if_pos h, h]
    · rw [if_neg h]
  rw [this]
theorem xI_xA (X : pmXs) (a k : Nat) (f : Nat → Int32) (v : Int32) : xI (xA X a f) k v = xA (xI X k v) a f := rfl
theorem mI_mA (M : pmMs) (a k : Nat) (f : Nat → Int32) (v : Int32) : mI (mA M a f) k v = mA (mI M k v) a f := rfl
theorem xa_xI (X : pmXs) (a k : Nat) (v : Int32) : xa (xI X k v) a = xa X a := rfl
theorem ma_mI (M : pmMs) (a k : Nat) (v : Int32) : ma (mI M k v) a = ma M a := rfl
theorem xA_1 (X : pmXs) (a : Nat) (f : Nat → Int32) : (xA X a f).1 = X.1 := rfl
theorem mA_1 (M : pmMs) (a : Nat) (f : Nat → Int32) : (mA M a f).1 = M.1 := rfl
theorem upd_upd (f : Nat → Int32) (k : Nat) (v w : Int32) : upd (upd f k v) k w = upd f k w := by
  funext j
  by_cases h : j = k
  · subst h; rw [pk_us, pk_us]
  · rw [pk_un h, pk_un h, pk_un h]
theorem upd_self (f : Nat → Int32) (k : Nat) : upd f k (f k) = f := by
  funext j
  by_cases h : j = k
  · subst h; rw [pk_us]
  · rw [pk_un h]
theorem xI_xI (X : pmXs) (k : Nat) (v w : Int32) : xI (xI X k v) k w = xI X k w := by
  show (upd (upd X.1 k v) k w, X.2) = (upd X.1 k w, X.2)
  rw [upd_upd]
theorem mI_mI (M : pmMs) (k : Nat) (v w : Int32) : mI (mI M k v) k w = mI M k w := by
  show (upd (upd M.1 k v) k w, M.2) = (upd M.1 k w, M.2)
  rw [upd_upd]
