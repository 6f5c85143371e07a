/-! RULES over the world hp X M Z -/
def xI (X : pmXs) (k : Nat) (v : Int32) : pmXs := (upd X.1 k v, X.2)
def xL (X : pmXs) (v : Int64) : pmXs := (X.1, v, X.2.2)
def xA (X : pmXs) (a : Nat) (f : Nat → Int32) : pmXs := (X.1, X.2.1, va_up X.2.2.1 a f, X.2.2.2)
def xQ (X : pmXs) (f : Nat → Option Nat) : pmXs := (X.1, X.2.1, X.2.2.1, f)
def mI (M : pmMs) (k : Nat) (v : Int32) : pmMs := (upd M.1 k v, M.2)
def mL (M : pmMs) (v : Int64) : pmMs := (M.1, v, M.2.2)
def mT (M : pmMs) (v : Nat) : pmMs := (M.1, M.2.1, v, M.2.2.2)
def mA (M : pmMs) (a : Nat) (f : Nat → Int32) : pmMs := (M.1, M.2.1, M.2.2.1, va_up M.2.2.2.1 a f, M.2.2.2.2)
def mK (M : pmMs) (f : Nat → Int64) : pmMs := (M.1, M.2.1, M.2.2.1, M.2.2.2.1, f)
/-- places of X, by name -/
abbrev xa (X : pmXs) (a : Nat) : Nat → Int32 := X.2.2.1 a
abbrev ma (M : pmMs) (a : Nat) : Nat → Int32 := M.2.2.2.1 a
theorem xI_same (X : pmXs) (k : Nat) (v : Int32) : (xI X k v).1 k = v := if_pos rfl
theorem xI_ne (X : pmXs) {k j : Nat} (v : Int32) (h : j ≠ k) : (xI X k v).1 j = X.1 j := if_neg h
theorem xA_same (X : pmXs) (a : Nat) (f : Nat → Int32) : xa (xA X a f) a = f := if_pos rfl
theorem xA_ne (X : pmXs) {a b : Nat} (f : Nat → Int32) (h : b ≠ a) : xa (xA X a f) b = xa X b := if_neg h
theorem mI_same (X : pmMs) (k : Nat) (v : Int32) : (mI X k v).1 k = v := if_pos rfl
theorem mI_ne (X : pmMs) {k j : Nat} (v : Int32) (h : j ≠ k) : (mI X k v).1 j = X.1 j := if_neg h
theorem mA_same (X : pmMs) (a : Nat) (f : Nat → Int32) : ma (mA X a f) a = f := if_pos rfl
theorem mA_ne (X : pmMs) {a b : Nat} (f : Nat → Int32) (h : b ≠ a) : ma (mA X a f) b = ma X b := if_neg h
section RULES
variable {d u mi pc : Nat} {L : pmL} {r : List Value} {h : pmH} {X : pmXs} {M : pmMs} {Z : pmZs} {Q : pmO → Prop}
/-- an int out of an int array, at a known place -/
theorem Wp.ild {ln nx n0 : Nat} {cv : Value} {tb : List (Nat × Nat)} {a n k : Nat} {i : Int32} {f : Nat → Int32} (e : pm_code mi pc = some (.iaload, ln, nx, cv, n0, tb)) (ha : pm_nth h a = some (.inl (0, n, .inl f))) (hi : i = nI k) (hk : k < n) (hn : n < 2 ^ 31) (kk : Wp d u mi nx L (.int (f k) :: r) h Q) : Wp d u mi pc L (.int i :: .ref a :: r) h Q := by
  subst hi
  refine Wp.stepP (P := vp_in (nI k) n) (pc' := nx) (L' := L) (st' := .int (f (nI k).toNatClampNeg) :: r) (h' := h) ?_ (vp_in_nI hk hn) (by rw [nI_clamp (by omega)]; exact kk)
  unfold pm_step
  rw [e]
  show pm_ild nx 0 4 L (.int (nI k) :: .ref a :: r) h = _
  unfold pm_ild
  simp only [ha]
  rfl
theorem Wp.ldX {ln nx n0 : Nat} {cv : Value} {tb : List (Nat × Nat)} {a n k : Nat} {i : Int32} (e : pm_code mi pc = some (.iaload, ln, nx, cv, n0, tb)) (ha : pm_nth (hp X M Z) a = some (.inl (0, n, .inl (xa X a)))) (hi : i = nI k) (hk : k < n) (hn : n < 2 ^ 31) (kk : Wp d u mi nx L (.int (xa X a k) :: r) (hp X M Z) Q) : Wp d u mi pc L (.int i :: .ref a :: r) (hp X M Z) Q := Wp.ild e ha hi hk hn kk
theorem Wp.ldM {ln nx n0 : Nat} {cv : Value} {tb : List (Nat × Nat)} {a n k : Nat} {i : Int32} (e : pm_code mi pc = some (.iaload, ln, nx, cv, n0, tb)) (ha : pm_nth (hp X M Z) a = some (.inl (0, n, .inl (ma M a)))) (hi : i = nI k) (hk : k < n) (hn : n < 2 ^ 31) (kk : Wp d u mi nx L (.int (ma M a k) :: r) (hp X M Z) Q) : Wp d u mi pc L (.int i :: .ref a :: r) (hp X M Z) Q := Wp.ild e ha hi hk hn kk
/-- the script -/
theorem Wp.sld {ln nx n0 : Nat} {cv : Value} {tb : List (Nat × Nat)} {n k : Nat} {i : Int32} {f : Nat → Int32} (e : pm_code mi pc = some (.iaload, ln, nx, cv, n0, tb)) (ha : pm_nth h 1 = some (.inl (4, n, .inl f))) (hi : i = nI k) (hk : k < n) (hn : n < 2 ^ 31) (kk : Wp d u mi nx L (.int (f k) :: r) h Q) : Wp d u mi pc L (.int i :: .ref 1 :: r) h Q := by
  subst hi
  refine Wp.stepP (P := vp_in (nI k) n) (pc' := nx) (L' := L) (st' := .int (f (nI k).toNatClampNeg) :: r) (h' := h) ?_ (vp_in_nI hk hn) (by rw [nI_clamp (by omega)]; exact kk)
  unfold pm_step
  rw [e]
  show pm_ild nx 0 4 L (.int (nI k) :: .ref 1 :: r) h = _
  unfold pm_ild
  simp only [ha]
  rfl
/-- a byte out of a byte array of ours, at a known place -/
theorem Wp.bld {ln nx n0 : Nat} {cv : Value} {tb : List (Nat × Nat)} {a n k : Nat} {i : Int32} {f : Nat → Int32} (e : pm_code mi pc = some (.baload, ln, nx, cv, n0, tb)) (ha : pm_nth h a = some (.inl (1, n, .inl f))) (hi : i = nI k) (hk : k < n) (hn : n < 2 ^ 31) (kk : Wp d u mi nx L (.int (f k) :: r) h Q) : Wp d u mi pc L (.int i :: .ref a :: r) h Q := by
  subst hi
  refine Wp.stepP (P := vp_in (nI k) n) (pc' := nx) (L' := L) (st' := .int (f (nI k).toNatClampNeg) :: r) (h' := h) ?_ (vp_in_nI hk hn) (by rw [nI_clamp (by omega)]; exact kk)
  unfold pm_step
  rw [e]
  show pm_ild nx 1 5 L (.int (nI k) :: .ref a :: r) h = _
  unfold pm_ild
  simp only [ha]
  rfl
theorem Wp.bldX {ln nx n0 : Nat} {cv : Value} {tb : List (Nat × Nat)} {a n k : Nat} {i : Int32} (e : pm_code mi pc = some (.baload, ln, nx, cv, n0, tb)) (ha : pm_nth (hp X M Z) a = some (.inl (1, n, .inl (xa X a)))) (hi : i = nI k) (hk : k < n) (hn : n < 2 ^ 31) (kk : Wp d u mi nx L (.int (xa X a k) :: r) (hp X M Z) Q) : Wp d u mi pc L (.int i :: .ref a :: r) (hp X M Z) Q := Wp.bld e ha hi hk hn kk
theorem Wp.bldM {ln nx n0 : Nat} {cv : Value} {tb : List (Nat × Nat)} {a n k : Nat} {i : Int32} (e : pm_code mi pc = some (.baload, ln, nx, cv, n0, tb)) (ha : pm_nth (hp X M Z) a = some (.inl (1, n, .inl (ma M a)))) (hi : i = nI k) (hk : k < n) (hn : n < 2 ^ 31) (kk : Wp d u mi nx L (.int (ma M a k) :: r) (hp X M Z) Q) : Wp d u mi pc L (.int i :: .ref a :: r) (hp X M Z) Q := Wp.bld e ha hi hk hn kk
theorem pm_ist_eq {nx a n k : Nat} {v : Int32} {f : Nat → Int32} (ha : pm_nth h a = some (.inl (0, n, .inl f))) (hk : k < 2 ^ 31) : pm_ist nx L (.int v :: .int (nI k) :: .ref a :: r) h = some (vp_in (nI k) n, 0, nx, L, r, pm_set h a (.inl (0, n, .inl (upd f k v)))) := by
  unfold pm_ist
  simp only [ha, nI_clamp hk]
/-- an int into an int array of X -/
theorem Wp.istX {ln nx n0 : Nat} {cv : Value} {tb : List (Nat × Nat)} {a n k : Nat} {i v : Int32} (e : pm_code mi pc = some (.iastore, ln, nx, cv, n0, tb)) (ha : pm_nth (hp X M Z) a = some (.inl (0, n, .inl (xa X a)))) (hs : pm_set (hp X M Z) a (.inl (0, n, .inl (upd (xa X a) k v))) = hp (xA X a (upd (xa X a) k v)) M Z) (hi : i = nI k) (hk : k < n) (hn : n < 2 ^ 31) (kk : Wp d u mi nx L r (hp (xA X a (upd (xa X a) k v)) M Z) Q) : Wp d u mi pc L (.int v :: .int i :: .ref a :: r) (hp X M Z) Q := by
  subst hi
  refine Wp.stepP (P := vp_in (nI k) n) (pc' := nx) (L' := L) (st' := r) (h' := hp (xA X a (upd (xa X a) k v)) M Z) ?_ (vp_in_nI hk hn) kk
  unfold pm_step
  rw [e]
  show pm_ist nx L (.int v :: .int (nI k) :: .ref a :: r) (hp X M Z) = _
  rw [pm_ist_eq ha (by omega), hs]
/-- an int into an int array of M -/
theorem Wp.istM {ln nx n0 : Nat} {cv : Value} {tb : List (Nat × Nat)} {a n k : Nat} {i v : Int32} (e : pm_code mi pc = some (.iastore, ln, nx, cv, n0, tb)) (ha : pm_nth (hp X M Z) a = some (.inl (0, n, .inl (ma M a)))) (hs : pm_set (hp X M Z) a (.inl (0, n, .inl (upd (ma M a) k v))) = hp X (mA M a (upd (ma M a) k v)) Z) (hi : i = nI k) (hk : k < n) (hn : n < 2 ^ 31) (kk : Wp d u mi nx L r (hp X (mA M a (upd (ma M a) k v)) Z) Q) : Wp d u mi pc L (.int v :: .int i :: .ref a :: r) (hp X M Z) Q := by
  subst hi
  refine Wp.stepP (P := vp_in (nI k) n) (pc' := nx) (L' := L) (st' := r) (h' := hp X (mA M a (upd (ma M a) k v)) Z) ?_ (vp_in_nI hk hn) kk
  unfold pm_step
  rw [e]
  show pm_ist nx L (.int v :: .int (nI k) :: .ref a :: r) (hp X M Z) = _
  rw [pm_ist_eq ha (by omega), hs]
theorem pm_bst_eq {nx a n k : Nat} {v : Int32} {f : Nat → Int32} (ha : pm_nth h a = some (.inl (1, n, .inl f))) (hk : k < 2 ^ 31) : pm_bst nx L (.int v :: .int (nI k) :: .ref a :: r) h = some (vp_in (nI k) n, 0, nx, L, r, pm_set h a (.inl (1, n, .inl (upd f k (vp_nar .byte v))))) := by
  unfold pm_bst
  simp only [ha, nI_clamp hk]
theorem Wp.bstX {ln nx n0 : Nat} {cv : Value} {tb : List (Nat × Nat)} {a n k : Nat} {i v : Int32} (e : pm_code mi pc = some (.bastore, ln, nx, cv, n0, tb)) (ha : pm_nth (hp X M Z) a = some (.inl (1, n, .inl (xa X a)))) (hs : pm_set (hp X M Z) a (.inl (1, n, .inl (upd (xa X a) k (vp_nar .byte v)))) = hp (xA X a (upd (xa X a) k (vp_nar .byte v))) M Z) (hi : i = nI k) (hk : k < n) (hn : n < 2 ^ 31) (kk : Wp d u mi nx L r (hp (xA X a (upd (xa X a) k (vp_nar .byte v))) M Z) Q) : Wp d u mi pc L (.int v :: .int i :: .ref a :: r) (hp X M Z) Q := by
  subst hi
  refine Wp.stepP (P := vp_in (nI k) n) (pc' := nx) (L' := L) (st' := r) (h' := hp (xA X a (upd (xa X a) k (vp_nar .byte v))) M Z) ?_ (vp_in_nI hk hn) kk
  unfold pm_step
  rw [e]
  show pm_bst nx L (.int v :: .int (nI k) :: .ref a :: r) (hp X M Z) = _
  rw [pm_bst_eq ha (by omega), hs]
theorem Wp.bstM {ln nx n0 : Nat} {cv : Value} {tb : List (Nat × Nat)} {a n k : Nat} {i v : Int32} (e : pm_code mi pc = some (.bastore, ln, nx, cv, n0, tb)) (ha : pm_nth (hp X M Z) a = some (.inl (1, n, .inl (ma M a)))) (hs : pm_set (hp X M Z) a (.inl (1, n, .inl (upd (ma M a) k (vp_nar .byte v)))) = hp X (mA M a (upd (ma M a) k (vp_nar .byte v))) Z) (hi : i = nI k) (hk : k < n) (hn : n < 2 ^ 31) (kk : Wp d u mi nx L r (hp X (mA M a (upd (ma M a) k (vp_nar .byte v))) Z) Q) : Wp d u mi pc L (.int v :: .int i :: .ref a :: r) (hp X M Z) Q := by
  subst hi
  refine Wp.stepP (P := vp_in (nI k) n) (pc' := nx) (L' := L) (st' := r) (h' := hp X (mA M a (upd (ma M a) k (vp_nar .byte v))) Z) ?_ (vp_in_nI hk hn) kk
  unfold pm_step
  rw [e]
  show pm_bst nx L (.int v :: .int (nI k) :: .ref a :: r) (hp X M Z) = _
  rw [pm_bst_eq ha (by omega), hs]
/-- an int field of X -/
theorem Wp.putX {ln nx idx k : Nat} {cv : Value} {v : Int32} (e : pm_code mi pc = some (.putfield idx, ln, nx, cv, 0, [(0, k)])) (hk : Nat.blt k 35 = true) (hs : pm_set (xf X) k (.int v) = xf (xI X k v)) (kk : Wp d u mi nx L r (hp (xI X k v) M Z) Q) : Wp d u mi pc L (.int v :: .ref 14 :: r) (hp X M Z) Q := by
  refine Wp.stepP (P := True) (pc' := nx) (L' := L) (st' := r) (h' := hp (xI X k v) M Z) ?_ trivial kk
  unfold pm_step
  rw [e]
  show (bif Nat.blt k 35 then some (pm_fit 0 (.int v), 0, nx, L, r, pm_set (hp X M Z) 14 (.inr (0, pm_set (xf X) k (.int v)))) else none : pmR) = _
  rw [hk, hs]
  rfl
/-- a boolean field of X -/
theorem Wp.putXZ {ln nx idx k : Nat} {cv : Value} {v : Int32} (e : pm_code mi pc = some (.putfield idx, ln, nx, cv, 3, [(0, k)])) (hk : Nat.blt k 35 = true) (hs : pm_set (xf X) k (.int v) = xf (xI X k v)) (hv : v = 0 ∨ v = 1) (kk : Wp d u mi nx L r (hp (xI X k v) M Z) Q) : Wp d u mi pc L (.int v :: .ref 14 :: r) (hp X M Z) Q := by
  refine Wp.stepP (P := v = 0 ∨ v = 1) (pc' := nx) (L' := L) (st' := r) (h' := hp (xI X k v) M Z) ?_ hv kk
  unfold pm_step
  rw [e]
  show (bif Nat.blt k 35 then some (pm_fit 3 (.int v), 0, nx, L, r, pm_set (hp X M Z) 14 (.inr (0, pm_set (xf X) k (.int v)))) else none : pmR) = _
  rw [hk, hs]
  rfl
theorem Wp.putM {ln nx idx k : Nat} {cv : Value} {v : Int32} (e : pm_code mi pc = some (.putfield idx, ln, nx, cv, 0, [(1, k)])) (hk : Nat.blt k 48 = true) (hs : pm_set (mf M) k (.int v) = mf (mI M k v)) (kk : Wp d u mi nx L r (hp X (mI M k v) Z) Q) : Wp d u mi pc L (.int v :: .ref 35 :: r) (hp X M Z) Q := by
  refine Wp.stepP (P := True) (pc' := nx) (L' := L) (st' := r) (h' := hp X (mI M k v) Z) ?_ trivial kk
  unfold pm_step
  rw [e]
  show (bif Nat.blt k 48 then some (pm_fit 0 (.int v), 0, nx, L, r, pm_set (hp X M Z) 35 (.inr (1, pm_set (mf M) k (.int v)))) else none : pmR) = _
  rw [hk, hs]
  rfl
theorem Wp.putMZ {ln nx idx k : Nat} {cv : Value} {v : Int32} (e : pm_code mi pc = some (.putfield idx, ln, nx, cv, 3, [(1, k)])) (hk : Nat.blt k 48 = true) (hs : pm_set (mf M) k (.int v) = mf (mI M k v)) (hv : v = 0 ∨ v = 1) (kk : Wp d u mi nx L r (hp X (mI M k v) Z) Q) : Wp d u mi pc L (.int v :: .ref 35 :: r) (hp X M Z) Q := by
  refine Wp.stepP (P := v = 0 ∨ v = 1) (pc' := nx) (L' := L) (st' := r) (h' := hp X (mI M k v) Z) ?_ hv kk
  unfold pm_step
  rw [e]
  show (bif Nat.blt k 48 then some (pm_fit 3 (.int v), 0, nx, L, r, pm_set (hp X M Z) 35 (.inr (1, pm_set (mf M) k (.int v)))) else none : pmR) = _
  rw [hk, hs]
  rfl
/-- an answer of a boolean method -/
theorem Wp.finZ {v : Int32} (e : pm_fin mi pc [.int v] = some (narrow .boolean (.int v) = .int v, some (.int v))) (hv : v = 0 ∨ v = 1) (q : Q (.inl (some (.int v)), h)) : Wp d u mi pc L [.int v] h Q := by
  refine Wp.fin e ?_ q
  rcases hv with rfl | rfl <;> rfl
end RULES
def bI (c : Prop) [Decidable c] : Int32 := if c then 1 else 0
