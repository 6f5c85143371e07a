/-! years -/
theorem Wp.putXL {d u mi pc ln nx idx : Nat} {cv : Value} {L : pmL} {r : List Value} {X : pmXs} {M : pmMs} {Z : pmZs} {Q : pmO → Prop} {v : Int64} (e : pm_code mi pc = some (.putfield idx, ln, nx, cv, 2, [(0, 25)])) (kk : Wp d u mi nx L r (hp (xL X v) M Z) Q) : Wp d u mi pc L (.long v :: .ref 14 :: r) (hp X M Z) Q := by
  refine Wp.stepP (P := True) (pc' := nx) (L' := L) (st' := r) (h' := hp (xL X v) M Z) ?_ trivial kk
  unfold pm_step
  rw [e]
  rfl
theorem Wp.putML {d u mi pc ln nx idx : Nat} {cv : Value} {L : pmL} {r : List Value} {X : pmXs} {M : pmMs} {Z : pmZs} {Q : pmO → Prop} {v : Int64} (e : pm_code mi pc = some (.putfield idx, ln, nx, cv, 2, [(1, 40)])) (kk : Wp d u mi nx L r (hp X (mL M v) Z) Q) : Wp d u mi pc L (.long v :: .ref 35 :: r) (hp X M Z) Q := by
  refine Wp.stepP (P := True) (pc' := nx) (L' := L) (st' := r) (h' := hp X (mL M v) Z) ?_ trivial kk
  unfold pm_step
  rw [e]
  rfl
theorem drS_ex : ∃ f : Int64 → Int64, ∀ x, x * 6364136223846793005 + 1442695040888963407 = f x := ⟨_, fun _ => rfl⟩
noncomputable def drS : Int64 → Int64 := Classical.choose drS_ex
theorem drS_eq (x : Int64) : x * 6364136223846793005 + 1442695040888963407 = drS x := Classical.choose_spec drS_ex x
def drV (x : Int64) (m : Nat) : Nat := (x.toUInt64 >>> 33).toNat % m
theorem dr_sh (x : Int64) : (x.toUInt64 >>> ((nI 33).toInt64.toUInt64 &&& Int64.toUInt64 63)).toInt64 = lN (x.toUInt64 >>> 33).toNat := by
  have h : (nI 33).toInt64.toUInt64 &&& Int64.toUInt64 63 = 33 := by decide
  rw [h]
  show (⟨x.toUInt64 >>> 33⟩ : Int64) = ⟨UInt64.ofNat (x.toUInt64 >>> 33).toNat⟩
  rw [UInt64.ofNat_toNat]
theorem dr_lt (x : Int64) : (x.toUInt64 >>> 33).toNat < 2 ^ 63 := by
  rw [UInt64.toNat_shiftRight]
  have h1 : x.toUInt64.toNat < 2 ^ 64 := UInt64.toNat_lt _
  have h2 : (33 : UInt64).toNat % 64 = 33 := rfl
  rw [h2, Nat.shiftRight_eq_div_pow]
  omega
section DR
variable {d u m : Nat} {X : pmXs} {M : pmMs} {Z : pmZs} {Q : pmO → Prop}
theorem X_draw (h0 : 0 < m) (hm : m < 2 ^ 31) (hQ : Q (.inl (some (.int (nI (drV (drS X.2.1) m)))), hp (xL X (drS X.2.1)) M Z)) : Wp d u 94 0 (pm_entry 94 [.ref 14, .int (nI m)]) [] (hp X M Z) Q := by
  iterate 7 refine Wp.step rfl ?_
  dsimp only
  refine Wp.putXL rfl ?_
  rw [drS_eq]
  repeat (refine Wp.step rfl ?_)
  have hne : (nI m).toInt64 ≠ 0 := by
    rw [nI_l hm]
    exact fun q => absurd ((lN_eq (b := 0) hm (by decide)).mp q) (by omega)
  refine Wp.stepP rfl hne ?_
  have e : ((xL X (drS X.2.1)).2.1.toUInt64 >>> ((nI 33).toInt64.toUInt64 &&& Int64.toUInt64 63)).toInt64 = lN ((drS X.2.1).toUInt64 >>> 33).toNat := dr_sh _
  simp only [e, nI_l hm, pk_lRem (dr_lt (drS X.2.1)) h0 (show m < 2 ^ 63 by omega)]
  refine Wp.step rfl ?_
  rw [lN_i]
  exact Wp.fin rfl rfl hQ
theorem M_draw (h0 : 0 < m) (hm : m < 2 ^ 31) (hQ : Q (.inl (some (.int (nI (drV (drS M.2.1) m)))), hp X (mL M (drS M.2.1)) Z)) : Wp d u 181 0 (pm_entry 181 [.ref 35, .int (nI m)]) [] (hp X M Z) Q := by
  iterate 7 refine Wp.step rfl ?_
  dsimp only
  refine Wp.putML rfl ?_
  rw [drS_eq]
  repeat (refine Wp.step rfl ?_)
  have hne : (nI m).toInt64 ≠ 0 := by
    rw [nI_l hm]
    exact fun q => absurd ((lN_eq (b := 0) hm (by decide)).mp q) (by omega)
  refine Wp.stepP rfl hne ?_
  have e : ((mL M (drS M.2.1)).2.1.toUInt64 >>> ((nI 33).toInt64.toUInt64 &&& Int64.toUInt64 63)).toInt64 = lN ((drS M.2.1).toUInt64 >>> 33).toNat := dr_sh _
  simp only [e, nI_l hm, pk_lRem (dr_lt (drS M.2.1)) h0 (show m < 2 ^ 63 by omega)]
  refine Wp.step rfl ?_
  rw [lN_i]
  exact Wp.fin rfl rfl hQ
end DR
/-! what a year's draw does to a row -/
noncomputable def dy1 (now : Nat → Int32) (it : Int32) (K : Nat) (x : Int64) : (Nat → Int32) × Int64 := if it ≤ nI (drV (drS x) 10) then (now, drS x) else (upd now 16 (now 16 ^^^ (nI 1 <<< (nI (drV (drS (drS x)) K) &&& 31))), drS (drS x))
noncomputable def dy2 (ix : Nat → Nat) (now : Nat → Int32) (K : Nat) (x : Int64) : (Nat → Int32) × Int64 := if drV (drS x) 10 < 7 then (now, drS x) else (upd now (ix (drV (drS (drS x)) K)) (mn (nI 30) (now (ix (drV (drS (drS x)) K)) + nI 2)), drS (drS x))
theorem drV_lt {x : Int64} {m : Nat} (h : 0 < m) : drV x m < m := Nat.mod_lt _ h
theorem xL_xL (X : pmXs) (v w : Int64) : xL (xL X v) w = xL X w := rfl
theorem mL_mL (X : pmMs) (v w : Int64) : mL (mL X v) w = mL X w := rfl
theorem X_drawYear {d u K : Nat} {X : pmXs} {M : pmMs} {Z : pmZs} {Q : pmO → Prop} (hK : X.1 13 = nI K) (h0 : 0 < K) (hK4 : K ≤ 4) (hQ : Q (.inl none, hp (xL (xA X 26 (dy2 id (dy1 (xa X 26) (X.1 21) K X.2.1).1 K (dy1 (xa X 26) (X.1 21) K X.2.1).2).1) (dy2 id (dy1 (xa X 26) (X.1 21) K X.2.1).1 K (dy1 (xa X 26) (X.1 21) K X.2.1).2).2) M Z)) : Wp (d + 2) u 62 0 (pm_entry 62 [.ref 14]) [] (hp X M Z) Q := by
  have k9 : ∀ (u : Nat) (r : Nat → Int32) (x : Int64), Q (.inl none, hp (xL (xA X 26 (dy2 id r K x).1) (dy2 id r K x).2) M Z) → Wp (d + 2) u 62 33 [some (.ref 14), none] [] (hp (xL (xA X 26 r) x) M Z) Q := by
    intro u r x hQ
    unfold dy2 at hQ
    repeat (refine Wp.step rfl ?_)
    refine Wp.call rfl (Nat.zero_le _) (X_draw (m := 10) (by omega) (by decide) ⟨_, _, rfl, ?_⟩)
    repeat (refine Wp.step rfl ?_)
    by_cases c : drV (drS x) 10 < 7
    · rw [if_pos c] at hQ
      refine Wp.brF rfl (nI_ge (by exact c) (by decide)) ?_
      exact Wp.fin rfl trivial hQ
    rw [if_neg c] at hQ
    refine Wp.brT rfl (nI_le (by exact Nat.le_of_not_lt c) (Nat.lt_of_lt_of_le (drV_lt (by decide)) (by decide))) ?_
    iterate 3 refine Wp.step rfl ?_
    have e : (xL (xL (xA X 26 r) x) (drS (xL (xA X 26 r) x).2.1)).1 13 = nI K := hK
    simp only [e]
    refine Wp.call rfl (Nat.zero_le _) (X_draw (m := K) h0 (by omega) ⟨_, _, rfl, ?_⟩)
    have hk := drV_lt (x := drS (drS x)) h0
    generalize hkk : drV (drS (drS x)) K = k at hk hQ
    have hkk' : drV (drS (xL (xL (xA X 26 r) x) (drS (xL (xA X 26 r) x).2.1)).2.1) K = k := hkk
    rw [hkk']
    repeat (refine Wp.step rfl ?_)
    refine Wp.ldX (k := k) rfl rfl (by first | (simp only [nI_add, pk_mul, Nat.zero_add, Nat.add_zero]; done) | (simp only [nI_add, pk_mul, Nat.zero_add, Nat.add_zero]; exact rfl) | exact rfl) (by omega) (by decide) ?_
    repeat (refine Wp.step rfl ?_)
    refine Wp.istX (k := k) (v := mn (nI 30) (r k + nI 2)) rfl rfl rfl (by first | (simp only [nI_add, pk_mul, Nat.zero_add, Nat.add_zero]; done) | (simp only [nI_add, pk_mul, Nat.zero_add, Nat.add_zero]; exact rfl) | exact rfl) (by omega) (by decide) ?_
    refine Wp.fin rfl trivial ?_
    have e2 : ∀ (v : Int64) (f : Nat → Int32), xA (xL (xL (xL (xA X 26 r) x) (drS x)) v) 26 f = xL (xA X 26 f) v := by
      intro v f
      show xL (xA (xA X 26 r) 26 f) v = _
      rw [xA_xA]
    refine Eq.mp ?_ hQ
    exact congrArg (fun z => Q (.inl none, hp z M Z)) (e2 _ _).symm
  unfold dy1 at hQ
  repeat (refine Wp.step rfl ?_)
  refine Wp.call rfl (Nat.zero_le _) (X_draw (m := 10) (by omega) (by decide) ⟨_, _, rfl, ?_⟩)
  repeat (refine Wp.step rfl ?_)
  by_cases c : X.1 21 ≤ nI (drV (drS X.2.1) 10)
  · rw [if_pos c] at hQ
    refine Wp.brT rfl c ?_
    have := k9 (u - 0) (xa X 26) (drS X.2.1) hQ
    rw [xA_self] at this
    exact this
  rw [if_neg c] at hQ
  refine Wp.brF rfl c ?_
  iterate 4 refine Wp.step rfl ?_
  refine Wp.ldX (k := 16) rfl rfl (by first | (simp only [nI_add, pk_mul, Nat.zero_add, Nat.add_zero]; done) | (simp only [nI_add, pk_mul, Nat.zero_add, Nat.add_zero]; exact rfl) | exact rfl) (by omega) (by decide) ?_
  iterate 4 refine Wp.step rfl ?_
  have e : (xL X (drS X.2.1)).1 13 = nI K := hK
  simp only [e]
  refine Wp.call rfl (Nat.zero_le _) (X_draw (m := K) h0 (by omega) ⟨_, _, rfl, ?_⟩)
  repeat (refine Wp.step rfl ?_)
  refine Wp.istX (k := 16) rfl rfl rfl (by first | (simp only [nI_add, pk_mul, Nat.zero_add, Nat.add_zero]; done) | (simp only [nI_add, pk_mul, Nat.zero_add, Nat.add_zero]; exact rfl) | exact rfl) (by omega) (by decide) ?_
  exact k9 _ _ _ hQ
