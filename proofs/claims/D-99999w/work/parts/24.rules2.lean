/-! RULES for nodes, texts of the JDK, faults -/
def zN (Z : pmZs) (N : List va_E) : pmZs := (Z.1, Z.2.1, N)
theorem hp_nth (X : pmXs) (M : pmMs) (Z : pmZs) (i : Nat) : pm_nth (hp X M Z) (i + 59) = pm_nth Z.2.2 i := rfl
theorem hp_set (X : pmXs) (M : pmMs) (Z : pmZs) (i : Nat) (c : va_E) : pm_set (hp X M Z) (i + 59) c = hp X M (zN Z (pm_set Z.2.2 i c)) := rfl
section RULES2
variable {d u mi pc : Nat} {L : pmL} {r : List Value} {h : pmH} {X : pmXs} {M : pmMs} {Z : pmZs} {Q : pmO → Prop}
theorem Wp.gf {idx ln nx n0 a ci k : Nat} {cv v : Value} {tb : List (Nat × Nat)} {fs : List Value} (e : pm_code mi pc = some (.getfield idx, ln, nx, cv, n0, tb)) (ha : pm_nth h a = some (.inr (ci, fs))) (hf : pm_find tb ci = some k) (hk : pm_nth fs k = some v) (kk : Wp d u mi nx L (v :: r) h Q) : Wp d u mi pc L (.ref a :: r) h Q := by
  refine Wp.step (pc' := nx) (L' := L) (st' := v :: r) (h' := h) ?_ kk
  unfold pm_step
  rw [e]
  show pm_get nx tb L (.ref a :: r) h = _
  unfold pm_get
  simp only [ha, hf, hk]
theorem Wp.pf {idx ln nx n0 a ci k : Nat} {cv v : Value} {tb : List (Nat × Nat)} {fs : List Value} (e : pm_code mi pc = some (.putfield idx, ln, nx, cv, n0, tb)) (ha : pm_nth h a = some (.inr (ci, fs))) (hf : pm_find tb ci = some k) (hk : Nat.blt k fs.length = true) (hv : pm_fit n0 v) (kk : Wp d u mi nx L r (pm_set h a (.inr (ci, pm_set fs k v))) Q) : Wp d u mi pc L (v :: .ref a :: r) h Q := by
  refine Wp.stepP (P := pm_fit n0 v) (pc' := nx) (L' := L) (st' := r) (h' := pm_set h a (.inr (ci, pm_set fs k v))) ?_ hv kk
  unfold pm_step
  rw [e]
  show pm_put nx n0 tb L (v :: .ref a :: r) h = _
  unfold pm_put
  simp only [ha, hf, hk]
  rfl
theorem Wp.len {ln nx n0 a n kd : Nat} {cv : Value} {tb : List (Nat × Nat)} {c : (Nat → Int32) ⊕ ((Nat → Int64) ⊕ _)} (e : pm_code mi pc = some (.arraylength, ln, nx, cv, n0, tb)) (ha : pm_nth h a = some (.inl (kd, n, c))) (hk : (Nat.blt kd 4 || (Nat.blt kd 6 && Nat.blt a 14)) = true) (kk : Wp d u mi nx L (.int (nI n) :: r) h Q) : Wp d u mi pc L (.ref a :: r) h Q := by
  refine Wp.step (pc' := nx) (L' := L) (st' := .int (nI n) :: r) (h' := h) ?_ kk
  unfold pm_step
  rw [e]
  show pm_len nx L (.ref a :: r) h = _
  unfold pm_len
  simp only [ha, hk]
  rfl
theorem Wp.newZ {idx ln nx n0 ci N : Nat} {cv : Value} (e : pm_code mi pc = some (.new idx, ln, nx, cv, n0, [(ci, N)])) (hr : pm_rest r = true) (hu : N + 1 ≤ u) (kk : Wp d (u - (N + 1)) mi nx L (.ref (Z.2.2.length + 59) :: r) (hp X M (zN Z (Z.2.2 ++ [.inr (ci, pm_def ci)]))) Q) : Wp d u mi pc L r (hp X M Z) Q := by
  refine Wp.stepK (P := True) (n := N + 1) (pc' := nx) (L' := L) (st' := .ref (Z.2.2.length + 59) :: r) (h' := hp X M (zN Z (Z.2.2 ++ [.inr (ci, pm_def ci)]))) ?_ trivial hu kk
  unfold pm_step
  rw [e]
  show pm_new nx [(ci, N)] L r (hp X M Z) = _
  unfold pm_new
  simp only [hr]
  rfl
/-- a byte of a text of the JDK -/
theorem Wp.bldR {ln nx n0 a n k : Nat} {cv : Value} {tb : List (Nat × Nat)} {f : Nat → Int32} (e : pm_code mi pc = some (.baload, ln, nx, cv, n0, tb)) (ha : pm_nth h a = some (.inl (5, n, .inl f))) (h14 : a < 14) (hk : k < n) (hn : n < 2 ^ 31) (kk : Wp d u mi nx L (.int (f k) :: r) h Q) : Wp d u mi pc L (.int (nI k) :: .ref a :: r) h Q := by
  refine Wp.stepP (P := vp_in (nI k) n) (pc' := nx) (L' := L) (st' := .int (f (nI k).toNatClampNeg) :: r) (h' := h) ?_ (vp_in_nI hk hn) (by rw [nI_clamp (by omega)]; exact kk)
  unfold pm_step
  rw [e]
  show pm_ild nx 1 5 L (.int (nI k) :: .ref a :: r) h = _
  unfold pm_ild
  simp only [ha]
  rw [show (Nat.beq 5 1 || (Nat.beq 5 5 && Nat.blt a 14)) = true by simp [Nat.blt]; omega]
  rfl
/-- a call that may end with a fault that is handed on -/
theorem Wp.callF {y nx u1 : Nat} {st args : List Value} (e : pm_call mi pc st h = some (y, nx, args, r)) (hx : pm_hnd (pm_info mi).2.2.2.2.1 pc = none) (hu : u1 ≤ u) (w : Wp d u1 y 0 (pm_entry y args) [] h (fun o => (∃ v h', o = (.inl v, h') ∧ Wp (d + 1) (u - u1) mi nx L (v.toList ++ r) h' Q) ∨ ∃ ci h', o = (.inr ci, h') ∧ Q (.inr ci, h'))) : Wp (d + 1) u mi pc L st h Q := by
  refine Wp.callX e hu w (fun v h' q => ?_) (fun ci h' q => ?_)
  · rcases q with ⟨v2, h2, e1, k⟩ | ⟨c2, h2, e1, k⟩
    · cases e1
      exact k
    · cases e1
  · rcases q with ⟨v2, h2, e1, k⟩ | ⟨c2, h2, e1, k⟩
    · cases e1
    · cases e1
      unfold pm_X
      rw [hx]
      exact k
/-- a call by the receiver's kind -/
theorem pm_call_v {idx ln nx n a ci y : Nat} {cv : Value} {tb : List (Nat × Nat)} {st as : List Value} {fs : List Value} (e : pm_code mi pc = some (.invokevirtual idx, ln, nx, cv, n, tb)) (hs : (st.take n).reverse = .ref a :: as) (ha : pm_nth h a = some (.inr (ci, fs))) (hf : pm_find tb ci = some y) (hc : pm_can y n st = true) : pm_call mi pc st h = some (y, nx, .ref a :: as, st.drop n) := by
  unfold pm_call
  rw [e]
  show pm_callE (.invokevirtual idx, ln, nx, cv, n, tb) st h = _
  unfold pm_callE
  simp only [hs, ha, hf, hc]
  rfl
end RULES2
