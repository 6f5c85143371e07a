/-! arm, teach, swear, burn, give, year, undo -/
theorem RowC.at0 {K F k : Nat} {w now : Nat → Int32} (h : RowC K F w now) (hk : k < 4) : w (4 * k) = now k := (h.1.1 k 0 hk (by omega)).trans (congrArg now (by omega))
theorem op_arm (k : Int32) : OpX 12 135 [.int k] := by
  intro X M Z ⟨K, F, gr, rt, lm, G, lw, hC⟩ d u Q hd hu hQ
  obtain ⟨hG, hKF, hE, hM, hT, hL, hP, hR, hA, hN, hI⟩ := id hC
  obtain ⟨d, rfl⟩ : ∃ d0, d = d0 + 20 := ⟨d - 20, by omega⟩
  have hK := hG.1
  repeat (refine Wp.step rfl ?_)
  refine Wp.call rfl (Nat.zero_le _) (X_canArm hE.1 hG.1 k (fun hc => ⟨_, _, rfl, ?_⟩) (fun hc => ⟨_, _, rfl, ?_⟩))
  case refine_2 =>
    refine Wp.brF rfl (by decide) ?_
    repeat (refine Wp.step rfl ?_)
    refine Wp.fin rfl rfl (hQ _ X Z.2.2 ?_)
    intro d u Q hd hQ
    obtain ⟨d, rfl⟩ : ∃ d0, d = d0 + 20 := ⟨d - 20, by omega⟩
    iterate 2 refine Wp.step rfl ?_
    refine Wp.putM rfl rfl rfl ?_
    repeat (refine Wp.step rfl ?_)
    refine Wp.call rfl (Nat.zero_le _) (M_canArm (a := 48) (N := 291) (now := xa X 26) (Or.inl rfl) (by exact hR.1) (by decide) (by exact hM.1) hG.1 k (fun q => absurd q hc) (fun q => ⟨_, _, rfl, ?_⟩))
    refine Wp.brF rfl (by decide) ?_
    repeat (refine Wp.step rfl ?_)
    exact Wp.fin rfl rfl (hQ _ ⟨K, F, gr, rt, lm, G, lw, hC⟩)
  obtain ⟨X1, x1, x2, x3, x4, x5⟩ := hC.act
  refine Wp.brT rfl (by decide) ?_
  repeat (refine Wp.step rfl ?_)
  refine Wp.call rfl (Nat.zero_le _) (x4 _ _ _ _ ⟨_, _, rfl, ?_⟩)
  obtain ⟨j, hj, rfl, q1, q2⟩ := id hc
  repeat (refine Wp.step rfl ?_)
  refine Wp.call rfl (Nat.zero_le _) (X_armNow (j := j) (by omega) ⟨_, _, rfl, ?_⟩)
  repeat (refine Wp.step rfl ?_)
  refine Wp.ldX (k := j) rfl rfl (by first | (simp only [nI_add, pk_mul, Nat.zero_add, Nat.add_zero]; done) | (simp only [nI_add, pk_mul, Nat.zero_add, Nat.add_zero]; exact rfl) | exact rfl) (by omega) (by decide) ?_
  refine Wp.fin rfl rfl (hQ _ _ Z.2.2 ?_)
  intro d u Q hd hQ
  obtain ⟨d, rfl⟩ : ∃ d0, d = d0 + 20 := ⟨d - 20, by omega⟩
  iterate 2 refine Wp.step rfl ?_
  refine Wp.putM rfl rfl rfl ?_
  repeat (refine Wp.step rfl ?_)
  refine Wp.call rfl (Nat.zero_le _) (M_canArm (a := 48) (N := 291) (now := xa X 26) (Or.inl rfl) (by exact hR.1) (by decide) (by exact hM.1) hG.1 (nI j) (fun q => ⟨_, _, rfl, ?_⟩) (fun q => absurd hc q))
  refine Wp.brT rfl (by decide) ?_
  obtain ⟨M1, m1, m2, m3, m4, m5⟩ := x5 (mI M 0 (nI 0)) hC
  repeat (refine Wp.step rfl ?_)
  refine Wp.call rfl (Nat.zero_le _) (m5 _ _ _ _ ⟨_, _, rfl, ?_⟩)
  repeat (refine Wp.step rfl ?_)
  refine Wp.call rfl (Nat.zero_le _) (M_spends (a := 48) (j := j) (i := 0) (Or.inl rfl) (by omega) (by omega) (nI 2) ⟨_, _, rfl, ?_⟩)
  repeat (refine Wp.step rfl ?_)
  refine Wp.ldM (k := 4 * j) rfl rfl (by first | (simp only [nI_add, pk_mul, Nat.zero_add, Nat.add_zero]; done) | (simp only [nI_add, pk_mul, Nat.zero_add, Nat.add_zero]; exact rfl) | exact rfl) (by omega) (by decide) ?_
  have hR1 := (m4.2.2.2.2.2.2.2.1).arm hK hj (by rw [x3 26 (by decide)]; exact q1)
  have e := hR1.at0 (k := j) (by omega)
  simp only [mA_same, xA_same] at hQ ⊢
  rw [e]
  exact Wp.fin rfl rfl (hQ _ ⟨K, F, gr, rt, lm, G, lw, m4.row hR1⟩)
theorem op_teach (k : Int32) : OpX 13 136 [.int k] := by
  intro X M Z ⟨K, F, gr, rt, lm, G, lw, hC⟩ d u Q hd hu hQ
  obtain ⟨hG, hKF, hE, hM, hT, hL, hP, hR, hA, hN, hI⟩ := id hC
  obtain ⟨d, rfl⟩ : ∃ d0, d = d0 + 20 := ⟨d - 20, by omega⟩
  have hK := hG.1
  repeat (refine Wp.step rfl ?_)
  refine Wp.call rfl (Nat.zero_le _) (X_canTeach hE.1 hG.1 k (fun hc => ⟨_, _, rfl, ?_⟩) (fun hc => ⟨_, _, rfl, ?_⟩))
  case refine_2 =>
    refine Wp.brF rfl (by decide) ?_
    repeat (refine Wp.step rfl ?_)
    refine Wp.fin rfl rfl (hQ _ X Z.2.2 ?_)
    intro d u Q hd hQ
    obtain ⟨d, rfl⟩ : ∃ d0, d = d0 + 20 := ⟨d - 20, by omega⟩
    iterate 2 refine Wp.step rfl ?_
    refine Wp.putM rfl rfl rfl ?_
    repeat (refine Wp.step rfl ?_)
    refine Wp.call rfl (Nat.zero_le _) (M_canTeach (a := 48) (N := 291) (now := xa X 26) (Or.inl rfl) (by exact hR.1) (by decide) (by exact hM.1) hG.1 k (fun q => absurd q hc) (fun q => ⟨_, _, rfl, ?_⟩))
    refine Wp.brF rfl (by decide) ?_
    repeat (refine Wp.step rfl ?_)
    exact Wp.fin rfl rfl (hQ _ ⟨K, F, gr, rt, lm, G, lw, hC⟩)
  obtain ⟨X1, x1, x2, x3, x4, x5⟩ := hC.act
  refine Wp.brT rfl (by decide) ?_
  repeat (refine Wp.step rfl ?_)
  refine Wp.call rfl (Nat.zero_le _) (x4 _ _ _ _ ⟨_, _, rfl, ?_⟩)
  obtain ⟨j, hj, rfl, q1, q2⟩ := id hc
  repeat (refine Wp.step rfl ?_)
  refine Wp.call rfl (Nat.zero_le _) (X_teachNow (j := j) (by omega) ⟨_, _, rfl, ?_⟩)
  repeat (refine Wp.step rfl ?_)
  refine Wp.ldX (k := 8 + j) rfl rfl (by first | (simp only [nI_add, pk_mul, Nat.zero_add, Nat.add_zero]; done) | (simp only [nI_add, pk_mul, Nat.zero_add, Nat.add_zero]; exact rfl) | exact rfl) (by omega) (by decide) ?_
  refine Wp.fin rfl rfl (hQ _ _ Z.2.2 ?_)
  intro d u Q hd hQ
  obtain ⟨d, rfl⟩ : ∃ d0, d = d0 + 20 := ⟨d - 20, by omega⟩
  iterate 2 refine Wp.step rfl ?_
  refine Wp.putM rfl rfl rfl ?_
  repeat (refine Wp.step rfl ?_)
  refine Wp.call rfl (Nat.zero_le _) (M_canTeach (a := 48) (N := 291) (now := xa X 26) (Or.inl rfl) (by exact hR.1) (by decide) (by exact hM.1) hG.1 (nI j) (fun q => ⟨_, _, rfl, ?_⟩) (fun q => absurd hc q))
  refine Wp.brT rfl (by decide) ?_
  obtain ⟨M1, m1, m2, m3, m4, m5⟩ := x5 (mI M 0 (nI 0)) hC
  repeat (refine Wp.step rfl ?_)
  refine Wp.call rfl (Nat.zero_le _) (m5 _ _ _ _ ⟨_, _, rfl, ?_⟩)
  repeat (refine Wp.step rfl ?_)
  refine Wp.call rfl (Nat.zero_le _) (M_spends (a := 48) (j := j) (i := 2) (Or.inl rfl) (by omega) (by omega) (nI 3) ⟨_, _, rfl, ?_⟩)
  repeat (refine Wp.step rfl ?_)
  refine Wp.ldM (k := 4 * j + 2) rfl rfl (by first | (simp only [nI_add, pk_mul, Nat.zero_add, Nat.add_zero]; done) | (simp only [nI_add, pk_mul, Nat.zero_add, Nat.add_zero]; exact rfl) | exact rfl) (by omega) (by decide) ?_
  have hR1 := (m4.2.2.2.2.2.2.2.1).teach hK hj (by rw [x3 26 (by decide)]; exact q1)
  have e := hR1.1.1 j 2 (by omega) (by omega)
  simp only [mA_same, xA_same] at hQ ⊢
  rw [e]
  exact Wp.fin rfl rfl (hQ _ ⟨K, F, gr, rt, lm, G, lw, m4.row hR1⟩)
theorem op_swear (k : Int32) : OpX 14 137 [.int k] := by
  intro X M Z ⟨K, F, gr, rt, lm, G, lw, hC⟩ d u Q hd hu hQ
  obtain ⟨hG, hKF, hE, hM, hT, hL, hP, hR, hA, hN, hI⟩ := id hC
  obtain ⟨d, rfl⟩ : ∃ d0, d = d0 + 20 := ⟨d - 20, by omega⟩
  have hK := hG.1
  have e17 : ma M 48 17 = xa X 26 17 := hR.at (by omega) (by omega)
  repeat (refine Wp.step rfl ?_)
  refine Wp.call rfl (Nat.zero_le _) (X_isK hE.1 hG.1 k (fun hc => ⟨_, _, rfl, ?_⟩) (fun hc => ⟨_, _, rfl, ?_⟩))
  case refine_2 =>
    refine Wp.brT rfl rfl ?_
    repeat (refine Wp.step rfl ?_)
    refine Wp.fin rfl rfl (hQ _ X Z.2.2 ?_)
    intro d u Q hd hQ
    obtain ⟨d, rfl⟩ : ∃ d0, d = d0 + 20 := ⟨d - 20, by omega⟩
    iterate 2 refine Wp.step rfl ?_
    refine Wp.putM rfl rfl rfl ?_
    repeat (refine Wp.step rfl ?_)
    refine Wp.call rfl (Nat.zero_le _) (M_is (Or.inl ⟨rfl, rfl⟩) (by exact hM.1) (by omega) k (fun q => absurd q hc) (fun q => ⟨_, _, rfl, ?_⟩))
    refine Wp.brT rfl rfl ?_
    repeat (refine Wp.step rfl ?_)
    exact Wp.fin rfl rfl (hQ _ ⟨K, F, gr, rt, lm, G, lw, hC⟩)
  obtain ⟨j, hj, rfl⟩ := id hc
  have ej : ma M 48 (4 * j + 1) = xa X 26 (4 + j) := hR.1.1 j 1 (by omega) (by omega)
  refine Wp.brF rfl (by decide) ?_
  repeat (refine Wp.step rfl ?_)
  refine Wp.ldX (k := 4 + j) rfl rfl (by first | (simp only [nI_add, pk_mul, Nat.zero_add, Nat.add_zero]; done) | (simp only [nI_add, pk_mul, Nat.zero_add, Nat.add_zero]; exact rfl) | exact rfl) (by omega) (by decide) ?_
  by_cases c1 : xa X 26 (4 + j) = 0
  · refine Wp.brT rfl c1 ?_
    repeat (refine Wp.step rfl ?_)
    refine Wp.fin rfl rfl (hQ _ X Z.2.2 ?_)
    intro d u Q hd hQ
    obtain ⟨d, rfl⟩ : ∃ d0, d = d0 + 20 := ⟨d - 20, by omega⟩
    iterate 2 refine Wp.step rfl ?_
    refine Wp.putM rfl rfl rfl ?_
    repeat (refine Wp.step rfl ?_)
    refine Wp.call rfl (Nat.zero_le _) (M_is (Or.inl ⟨rfl, rfl⟩) (by exact hM.1) (by omega) (nI j) (fun q => ⟨_, _, rfl, ?_⟩) (fun q => absurd hc q))
    refine Wp.brF rfl (by decide) ?_
    repeat (refine Wp.step rfl ?_)
    refine Wp.ldM (k := 4 * j + 1) rfl rfl (by first | (simp only [nI_add, pk_mul, Nat.zero_add, Nat.add_zero]; done) | (simp only [nI_add, pk_mul, Nat.zero_add, Nat.add_zero]; exact rfl) | exact rfl) (by omega) (by decide) ?_
    refine Wp.brT rfl (by simp only [ma_mI]; rw [ej]; exact c1) ?_
    repeat (refine Wp.step rfl ?_)
    exact Wp.fin rfl rfl (hQ _ ⟨K, F, gr, rt, lm, G, lw, hC⟩)
  refine Wp.brF rfl c1 ?_
  repeat (refine Wp.step rfl ?_)
  refine Wp.ldX (k := 17) rfl rfl (by first | (simp only [nI_add, pk_mul, Nat.zero_add, Nat.add_zero]; done) | (simp only [nI_add, pk_mul, Nat.zero_add, Nat.add_zero]; exact rfl) | exact rfl) (by omega) (by decide) ?_
  repeat (refine Wp.step rfl ?_)
  by_cases c2 : nI 4 ≤ xa X 26 17
  case neg =>
    refine Wp.brF rfl c2 ?_
    repeat (refine Wp.step rfl ?_)
    refine Wp.fin rfl rfl (hQ _ X Z.2.2 ?_)
    intro d u Q hd hQ
    obtain ⟨d, rfl⟩ : ∃ d0, d = d0 + 20 := ⟨d - 20, by omega⟩
    iterate 2 refine Wp.step rfl ?_
    refine Wp.putM rfl rfl rfl ?_
    repeat (refine Wp.step rfl ?_)
    refine Wp.call rfl (Nat.zero_le _) (M_is (Or.inl ⟨rfl, rfl⟩) (by exact hM.1) (by omega) (nI j) (fun q => ⟨_, _, rfl, ?_⟩) (fun q => absurd hc q))
    refine Wp.brF rfl (by decide) ?_
    repeat (refine Wp.step rfl ?_)
    refine Wp.ldM (k := 4 * j + 1) rfl rfl (by first | (simp only [nI_add, pk_mul, Nat.zero_add, Nat.add_zero]; done) | (simp only [nI_add, pk_mul, Nat.zero_add, Nat.add_zero]; exact rfl) | exact rfl) (by omega) (by decide) ?_
    refine Wp.brF rfl (by simp only [ma_mI]; rw [ej]; exact c1) ?_
    repeat (refine Wp.step rfl ?_)
    refine Wp.ldM (k := 17) rfl rfl (by first | (simp only [nI_add, pk_mul, Nat.zero_add, Nat.add_zero]; done) | (simp only [nI_add, pk_mul, Nat.zero_add, Nat.add_zero]; exact rfl) | exact rfl) (by omega) (by decide) ?_
    repeat (refine Wp.step rfl ?_)
    refine Wp.brF rfl (by simp only [ma_mI]; rw [e17]; exact c2) ?_
    repeat (refine Wp.step rfl ?_)
    exact Wp.fin rfl rfl (hQ _ ⟨K, F, gr, rt, lm, G, lw, hC⟩)
  refine Wp.brT rfl c2 ?_
  obtain ⟨X1, x1, x2, x3, x4, x5⟩ := hC.act
  repeat (refine Wp.step rfl ?_)
  refine Wp.call rfl (Nat.zero_le _) (x4 _ _ _ _ ⟨_, _, rfl, ?_⟩)
  repeat (refine Wp.step rfl ?_)
  refine Wp.ldX (k := 17) rfl rfl (by first | (simp only [nI_add, pk_mul, Nat.zero_add, Nat.add_zero]; done) | (simp only [nI_add, pk_mul, Nat.zero_add, Nat.add_zero]; exact rfl) | exact rfl) (by omega) (by decide) ?_
  repeat (refine Wp.step rfl ?_)
  refine Wp.istX (k := 17) rfl rfl rfl (by first | (simp only [nI_add, pk_mul, Nat.zero_add, Nat.add_zero]; done) | (simp only [nI_add, pk_mul, Nat.zero_add, Nat.add_zero]; exact rfl) | exact rfl) (by omega) (by decide) ?_
  repeat (refine Wp.step rfl ?_)
  refine Wp.ldX (k := 4 + j) rfl rfl (by first | (simp only [nI_add, pk_mul, Nat.zero_add, Nat.add_zero]; done) | (simp only [nI_add, pk_mul, Nat.zero_add, Nat.add_zero]; exact rfl) | exact rfl) (by omega) (by decide) ?_
  repeat (refine Wp.step rfl ?_)
  refine Wp.istX (k := 4 + j) rfl rfl rfl (by first | (simp only [nI_add, pk_mul, Nat.zero_add, Nat.add_zero]; done) | (simp only [nI_add, pk_mul, Nat.zero_add, Nat.add_zero]; exact rfl) | exact rfl) (by omega) (by decide) ?_
  repeat (refine Wp.step rfl ?_)
  refine Wp.ldX (k := 4 + j) rfl rfl (by first | (simp only [nI_add, pk_mul, Nat.zero_add, Nat.add_zero]; done) | (simp only [nI_add, pk_mul, Nat.zero_add, Nat.add_zero]; exact rfl) | exact rfl) (by omega) (by decide) ?_
  simp only [xA_xA, xA_same]
  simp only [pk_us, pk_un (show 4 + j ≠ 17 by omega)]
  refine Wp.fin rfl rfl (hQ _ _ Z.2.2 ?_)
  intro d u Q hd hQ
  obtain ⟨d, rfl⟩ : ∃ d0, d = d0 + 20 := ⟨d - 20, by omega⟩
  iterate 2 refine Wp.step rfl ?_
  refine Wp.putM rfl rfl rfl ?_
  repeat (refine Wp.step rfl ?_)
  refine Wp.call rfl (Nat.zero_le _) (M_is (Or.inl ⟨rfl, rfl⟩) (by exact hM.1) (by omega) (nI j) (fun q => ⟨_, _, rfl, ?_⟩) (fun q => absurd hc q))
  refine Wp.brF rfl (by decide) ?_
  repeat (refine Wp.step rfl ?_)
  refine Wp.ldM (k := 4 * j + 1) rfl rfl (by first | (simp only [nI_add, pk_mul, Nat.zero_add, Nat.add_zero]; done) | (simp only [nI_add, pk_mul, Nat.zero_add, Nat.add_zero]; exact rfl) | exact rfl) (by omega) (by decide) ?_
  refine Wp.brF rfl (by simp only [ma_mI]; rw [ej]; exact c1) ?_
  repeat (refine Wp.step rfl ?_)
  refine Wp.ldM (k := 17) rfl rfl (by first | (simp only [nI_add, pk_mul, Nat.zero_add, Nat.add_zero]; done) | (simp only [nI_add, pk_mul, Nat.zero_add, Nat.add_zero]; exact rfl) | exact rfl) (by omega) (by decide) ?_
  repeat (refine Wp.step rfl ?_)
  refine Wp.brT rfl (by simp only [ma_mI]; rw [e17]; exact c2) ?_
  obtain ⟨M1, m1, m2, m3, m4, m5⟩ := x5 (mI M 0 (nI 0)) hC
  repeat (refine Wp.step rfl ?_)
  refine Wp.call rfl (Nat.zero_le _) (m5 _ _ _ _ ⟨_, _, rfl, ?_⟩)
  repeat (refine Wp.step rfl ?_)
  refine Wp.call rfl (Nat.zero_le _) (M_spends (a := 48) (j := j) (i := 1) (Or.inl rfl) (by omega) (by omega) (nI 4) ⟨_, _, rfl, ?_⟩)
  repeat (refine Wp.step rfl ?_)
  refine Wp.ldM (k := 4 * j + 1) rfl rfl (by first | (simp only [nI_add, pk_mul, Nat.zero_add, Nat.add_zero]; done) | (simp only [nI_add, pk_mul, Nat.zero_add, Nat.add_zero]; exact rfl) | exact rfl) (by omega) (by decide) ?_
  have hR0 := m4.2.2.2.2.2.2.2.1
  have hR1 := (hR0.coin hK (Or.inr rfl) (xa X1 26 17 - nI 4)).bias (k := j) hK (by omega) (xa X1 26 (4 + j) - nI 1)
  have es : spP (ma M1 48) j 1 (nI 4) = upd (upd (ma M1 48) 17 (xa X1 26 17 - nI 4)) (4 * j + 1) (xa X1 26 (4 + j) - nI 1) := by
    unfold spP
    rw [hR0.at (by omega) (by omega), hR0.1.1 j 1 (by omega) (by omega), if_pos rfl, Int32.sub_eq_add_neg (a := xa X1 26 (4 * 1 + j))]
    rfl
  simp only [mA_same]
  rw [es, pk_us]
  exact Wp.fin rfl rfl (hQ _ ⟨K, F, gr, rt, lm, G, lw, m4.row hR1⟩)
theorem op_give (n : Int32) : OpX 16 139 [.int n] := by
  intro X M Z ⟨K, F, gr, rt, lm, G, lw, hC⟩ d u Q hd hu hQ
  obtain ⟨hG, hKF, hE, hM, hT, hL, hP, hR, hA, hN, hI⟩ := id hC
  obtain ⟨d, rfl⟩ : ∃ d0, d = d0 + 20 := ⟨d - 20, by omega⟩
  have hK := hG.1
  have e17 : ma M 48 17 = xa X 26 17 := hR.at (by omega) (by omega)
  repeat (refine Wp.step rfl ?_)
  refine Wp.call rfl (Nat.zero_le _) (X_isRealm hE.1 hG.1 (fun hc => ⟨_, _, rfl, ?_⟩) (fun hc => ⟨_, _, rfl, ?_⟩))
  case refine_2 =>
    refine Wp.brT rfl rfl ?_
    repeat (refine Wp.step rfl ?_)
    refine Wp.fin rfl rfl (hQ _ X Z.2.2 ?_)
    intro d u Q hd hQ
    obtain ⟨d, rfl⟩ : ∃ d0, d = d0 + 20 := ⟨d - 20, by omega⟩
    iterate 2 refine Wp.step rfl ?_
    refine Wp.putM rfl rfl rfl ?_
    repeat (refine Wp.step rfl ?_)
    refine Wp.brT rfl (by show M.1 26 = 0; rw [hM.1, hc]; rfl) ?_
    repeat (refine Wp.step rfl ?_)
    exact Wp.fin rfl rfl (hQ _ ⟨K, F, gr, rt, lm, G, lw, hC⟩)
  have nM : M.1 26 ≠ 0 := by rw [hM.1]; exact fun q => absurd ((nI_eq (b := 0) (by omega) (by omega)).mp q) (by omega)
  refine Wp.brF rfl (by decide) ?_
  repeat (refine Wp.step rfl ?_)
  refine Wp.call rfl (Nat.zero_le _) (X_inP _ _ _ _ (in_le n (by omega : 1 ≤ 50) (by decide)) (fun hw => ⟨_, _, rfl, ?_⟩) (fun hw => ⟨_, _, rfl, ?_⟩))
  case refine_2 =>
    refine Wp.brT rfl rfl ?_
    repeat (refine Wp.step rfl ?_)
    refine Wp.fin rfl rfl (hQ _ X Z.2.2 ?_)
    intro d u Q hd hQ
    obtain ⟨d, rfl⟩ : ∃ d0, d = d0 + 20 := ⟨d - 20, by omega⟩
    iterate 2 refine Wp.step rfl ?_
    refine Wp.putM rfl rfl rfl ?_
    repeat (refine Wp.step rfl ?_)
    refine Wp.brF rfl nM ?_
    repeat (refine Wp.step rfl ?_)
    refine Wp.call rfl (Nat.zero_le _) (M_isIn n (nI 1) (nI 50) rfl rfl _ (in_le n (by omega : 1 ≤ 50) (by decide)) (fun q => absurd q hw) (fun q => ⟨_, _, rfl, ?_⟩))
    refine Wp.brT rfl rfl ?_
    repeat (refine Wp.step rfl ?_)
    exact Wp.fin rfl rfl (hQ _ ⟨K, F, gr, rt, lm, G, lw, hC⟩)
  refine Wp.brF rfl (by decide) ?_
  repeat (refine Wp.step rfl ?_)
  refine Wp.ldX (k := 17) rfl rfl (by first | (simp only [nI_add, pk_mul, Nat.zero_add, Nat.add_zero]; done) | (simp only [nI_add, pk_mul, Nat.zero_add, Nat.add_zero]; exact rfl) | exact rfl) (by omega) (by decide) ?_
  repeat (refine Wp.step rfl ?_)
  by_cases c2 : xa X 26 17 + n ≤ nI 999
  case neg =>
    refine Wp.brF rfl c2 ?_
    repeat (refine Wp.step rfl ?_)
    refine Wp.fin rfl rfl (hQ _ X Z.2.2 ?_)
    intro d u Q hd hQ
    obtain ⟨d, rfl⟩ : ∃ d0, d = d0 + 20 := ⟨d - 20, by omega⟩
    iterate 2 refine Wp.step rfl ?_
    refine Wp.putM rfl rfl rfl ?_
    repeat (refine Wp.step rfl ?_)
    refine Wp.brF rfl nM ?_
    repeat (refine Wp.step rfl ?_)
    refine Wp.call rfl (Nat.zero_le _) (M_isIn n (nI 1) (nI 50) rfl rfl _ (in_le n (by omega : 1 ≤ 50) (by decide)) (fun q => ⟨_, _, rfl, ?_⟩) (fun q => absurd hw q))
    refine Wp.brF rfl (by decide) ?_
    repeat (refine Wp.step rfl ?_)
    refine Wp.ldM (k := 17) rfl rfl (by first | (simp only [nI_add, pk_mul, Nat.zero_add, Nat.add_zero]; done) | (simp only [nI_add, pk_mul, Nat.zero_add, Nat.add_zero]; exact rfl) | exact rfl) (by omega) (by decide) ?_
    repeat (refine Wp.step rfl ?_)
    refine Wp.brF rfl (by simp only [ma_mI]; rw [e17]; exact c2) ?_
    repeat (refine Wp.step rfl ?_)
    exact Wp.fin rfl rfl (hQ _ ⟨K, F, gr, rt, lm, G, lw, hC⟩)
  refine Wp.brT rfl c2 ?_
  obtain ⟨X1, x1, x2, x3, x4, x5⟩ := hC.act
  repeat (refine Wp.step rfl ?_)
  refine Wp.call rfl (Nat.zero_le _) (x4 _ _ _ _ ⟨_, _, rfl, ?_⟩)
  repeat (refine Wp.step rfl ?_)
  refine Wp.ldX (k := 17) rfl rfl (by first | (simp only [nI_add, pk_mul, Nat.zero_add, Nat.add_zero]; done) | (simp only [nI_add, pk_mul, Nat.zero_add, Nat.add_zero]; exact rfl) | exact rfl) (by omega) (by decide) ?_
  repeat (refine Wp.step rfl ?_)
  refine Wp.istX (k := 17) rfl rfl rfl (by first | (simp only [nI_add, pk_mul, Nat.zero_add, Nat.add_zero]; done) | (simp only [nI_add, pk_mul, Nat.zero_add, Nat.add_zero]; exact rfl) | exact rfl) (by omega) (by decide) ?_
  repeat (refine Wp.step rfl ?_)
  refine Wp.ldX (k := 17) rfl rfl (by first | (simp only [nI_add, pk_mul, Nat.zero_add, Nat.add_zero]; done) | (simp only [nI_add, pk_mul, Nat.zero_add, Nat.add_zero]; exact rfl) | exact rfl) (by omega) (by decide) ?_
  simp only [xA_same, pk_us]
  refine Wp.fin rfl rfl (hQ _ _ Z.2.2 ?_)
  intro d u Q hd hQ
  obtain ⟨d, rfl⟩ : ∃ d0, d = d0 + 20 := ⟨d - 20, by omega⟩
  iterate 2 refine Wp.step rfl ?_
  refine Wp.putM rfl rfl rfl ?_
  repeat (refine Wp.step rfl ?_)
  refine Wp.brF rfl nM ?_
  repeat (refine Wp.step rfl ?_)
  refine Wp.call rfl (Nat.zero_le _) (M_isIn n (nI 1) (nI 50) rfl rfl _ (in_le n (by omega : 1 ≤ 50) (by decide)) (fun q => ⟨_, _, rfl, ?_⟩) (fun q => absurd hw q))
  refine Wp.brF rfl (by decide) ?_
  repeat (refine Wp.step rfl ?_)
  refine Wp.ldM (k := 17) rfl rfl (by first | (simp only [nI_add, pk_mul, Nat.zero_add, Nat.add_zero]; done) | (simp only [nI_add, pk_mul, Nat.zero_add, Nat.add_zero]; exact rfl) | exact rfl) (by omega) (by decide) ?_
  repeat (refine Wp.step rfl ?_)
  refine Wp.brT rfl (by simp only [ma_mI]; rw [e17]; exact c2) ?_
  obtain ⟨M1, m1, m2, m3, m4, m5⟩ := x5 (mI M 0 (nI 0)) hC
  repeat (refine Wp.step rfl ?_)
  refine Wp.call rfl (Nat.zero_le _) (m5 _ _ _ _ ⟨_, _, rfl, ?_⟩)
  repeat (refine Wp.step rfl ?_)
  refine Wp.ldM (k := 17) rfl rfl (by first | (simp only [nI_add, pk_mul, Nat.zero_add, Nat.add_zero]; done) | (simp only [nI_add, pk_mul, Nat.zero_add, Nat.add_zero]; exact rfl) | exact rfl) (by omega) (by decide) ?_
  repeat (refine Wp.step rfl ?_)
  refine Wp.istM (k := 17) rfl rfl rfl (by first | (simp only [nI_add, pk_mul, Nat.zero_add, Nat.add_zero]; done) | (simp only [nI_add, pk_mul, Nat.zero_add, Nat.add_zero]; exact rfl) | exact rfl) (by omega) (by decide) ?_
  repeat (refine Wp.step rfl ?_)
  refine Wp.ldM (k := 17) rfl rfl (by first | (simp only [nI_add, pk_mul, Nat.zero_add, Nat.add_zero]; done) | (simp only [nI_add, pk_mul, Nat.zero_add, Nat.add_zero]; exact rfl) | exact rfl) (by omega) (by decide) ?_
  have hR0 := m4.2.2.2.2.2.2.2.1
  have e : ma M1 48 17 = xa X1 26 17 := hR0.at (by omega) (by omega)
  have hR1 := hR0.coin hK (Or.inr rfl) (xa X1 26 17 + n)
  simp only [mA_same, pk_us, e]
  exact Wp.fin rfl rfl (hQ _ ⟨K, F, gr, rt, lm, G, lw, m4.row hR1⟩)
theorem RowC.drop {K F i pg : Nat} {w w' now : Nat → Int32} (h : RowC K F w now) (hK : K ≤ 4) (h19 : now 19 = nI pg) (hpg : pg ≤ 30) (hi : i < pg) (hw : RR 110 w' (dropP now i pg)) (hw2 : ∀ j, 110 ≤ j → w' j = w j) : RowC K F w' (dropP now i pg) := by
  obtain ⟨r1, r2, pg', p1, p2, p3, p4⟩ := h.2.1
  obtain rfl : pg' = pg := (nI_eq (by omega) (by omega)).mp (p2.symm.trans h19)
  refine ⟨⟨hw.1, fun j a b => ?_⟩, ⟨fun k hk => ?_, ?_, pg' - 1, by omega, dropP_19, fun j hj => ?_, fun j a b => ?_⟩, ?_⟩
  · by_cases q : j < 110
    · exact hw.2 j a q
    · rw [hw2 j (by omega), dropP_hi (by omega) (by omega)]; exact h.1.2 j a b
  · rw [dropP_lo (by omega) (by omega) (by omega), dropP_lo (by omega) (by omega) (by omega), dropP_lo (by omega) (by omega) (by omega)]
    exact r1 k hk
  · rw [dropP_lo (by omega) (by omega) (by omega)]; exact r2
  · by_cases q : j < i
    · rw [dropP_lo (by omega) (by omega) (by omega)]; exact p3 j (by omega)
    · rw [dropP_mid (by omega) (by omega)]; exact p3 (j + 1) (by omega)
  · by_cases q : j < 107
    · rw [dropP_mid (by omega) q]; exact p4 (j + 3) (by omega) (by omega)
    · exact dropP_0 (by omega) b
  · obtain ⟨lg, a, b⟩ := h.2.2
    exact ⟨lg, a, by rw [dropP_hi (by omega) (by omega)]; exact b⟩
theorem op_burn (i : Int32) : OpX 15 138 [.int i] := by
  intro X M Z ⟨K, F, gr, rt, lm, G, lw, hC⟩ d u Q hd hu hQ
  obtain ⟨hG, hKF, hE, hM, hT, hL, hP, hR, hA, hN, hI⟩ := id hC
  obtain ⟨d, rfl⟩ : ∃ d0, d = d0 + 20 := ⟨d - 20, by omega⟩
  have hK := hG.1
  obtain ⟨pg, g1, g2, g3, g4⟩ := hR.2.1.2.2
  have e19 : ma M 48 19 = nI pg := (hR.at (by omega) (by omega)).trans g2
  repeat (refine Wp.step rfl ?_)
  refine Wp.ldX (k := 19) rfl rfl (by first | (simp only [nI_add, pk_mul, Nat.zero_add, Nat.add_zero]; done) | (simp only [nI_add, pk_mul, Nat.zero_add, Nat.add_zero]; exact rfl) | exact rfl) (by omega) (by decide) ?_
  repeat (refine Wp.step rfl ?_)
  refine Wp.call rfl (Nat.zero_le _) (X_inP _ _ _ (∃ j, j < pg ∧ i = nI j) (by rw [g2]; exact in_lt i (by omega)) (fun hc => ⟨_, _, rfl, ?_⟩) (fun hc => ⟨_, _, rfl, ?_⟩))
  case refine_2 =>
    refine Wp.brF rfl (by decide) ?_
    repeat (refine Wp.step rfl ?_)
    refine Wp.fin rfl rfl (hQ _ X Z.2.2 ?_)
    intro d u Q hd hQ
    obtain ⟨d, rfl⟩ : ∃ d0, d = d0 + 20 := ⟨d - 20, by omega⟩
    iterate 2 refine Wp.step rfl ?_
    refine Wp.putM rfl rfl rfl ?_
    repeat (refine Wp.step rfl ?_)
    refine Wp.ldM (k := 19) rfl rfl (by first | (simp only [nI_add, pk_mul, Nat.zero_add, Nat.add_zero]; done) | (simp only [nI_add, pk_mul, Nat.zero_add, Nat.add_zero]; exact rfl) | exact rfl) (by omega) (by decide) ?_
    repeat (refine Wp.step rfl ?_)
    refine Wp.call rfl (Nat.zero_le _) (M_isIn i (nI 0) (ma (mI M 0 (nI 0)) 48 19 - nI 1) rfl rfl (∃ j, j < pg ∧ i = nI j) (by simp only [ma_mI]; rw [e19]; exact in_lt i (by omega)) (fun q => absurd q hc) (fun q => ⟨_, _, rfl, ?_⟩))
    refine Wp.brF rfl (by decide) ?_
    repeat (refine Wp.step rfl ?_)
    exact Wp.fin rfl rfl (hQ _ ⟨K, F, gr, rt, lm, G, lw, hC⟩)
  obtain ⟨X1, x1, x2, x3, x4, x5⟩ := hC.act
  obtain ⟨j, hj, rfl⟩ := id hc
  have e26 := x3 26 (by decide)
  refine Wp.brT rfl (by decide) ?_
  repeat (refine Wp.step rfl ?_)
  refine Wp.call rfl (Nat.zero_le _) (x4 _ _ _ _ ⟨_, _, rfl, ?_⟩)
  repeat (refine Wp.step rfl ?_)
  refine Wp.call rfl (Nat.zero_le _) (X_dropPage (i := j) (pg := pg) (by rw [e26]; exact g2) g1 hj ⟨_, _, rfl, ?_⟩)
  repeat (refine Wp.step rfl ?_)
  refine Wp.ldX (k := 19) rfl rfl (by first | (simp only [nI_add, pk_mul, Nat.zero_add, Nat.add_zero]; done) | (simp only [nI_add, pk_mul, Nat.zero_add, Nat.add_zero]; exact rfl) | exact rfl) (by omega) (by decide) ?_
  rw [xA_same, dropP_19]
  refine Wp.fin rfl rfl (hQ _ _ Z.2.2 ?_)
  intro d u Q hd hQ
  obtain ⟨d, rfl⟩ : ∃ d0, d = d0 + 20 := ⟨d - 20, by omega⟩
  iterate 2 refine Wp.step rfl ?_
  refine Wp.putM rfl rfl rfl ?_
  repeat (refine Wp.step rfl ?_)
  refine Wp.ldM (k := 19) rfl rfl (by first | (simp only [nI_add, pk_mul, Nat.zero_add, Nat.add_zero]; done) | (simp only [nI_add, pk_mul, Nat.zero_add, Nat.add_zero]; exact rfl) | exact rfl) (by omega) (by decide) ?_
  repeat (refine Wp.step rfl ?_)
  refine Wp.call rfl (Nat.zero_le _) (M_isIn (nI j) (nI 0) (ma (mI M 0 (nI 0)) 48 19 - nI 1) rfl rfl (∃ j', j' < pg ∧ nI j = nI j') (by simp only [ma_mI]; rw [e19]; exact in_lt (nI j) (by omega)) (fun q => ⟨_, _, rfl, ?_⟩) (fun q => absurd hc q))
  refine Wp.brT rfl (by decide) ?_
  obtain ⟨M1, m1, m2, m3, m4, m5⟩ := x5 (mI M 0 (nI 0)) hC
  have hR0 := m4.2.2.2.2.2.2.2.1
  repeat (refine Wp.step rfl ?_)
  refine Wp.call rfl (Nat.zero_le _) (m5 _ _ _ _ ⟨_, _, rfl, ?_⟩)
  repeat (refine Wp.step rfl ?_)
  refine Wp.call rfl (Nat.zero_le _) (M_burns (a := 48) (i := j) (pg := pg) (F := F) (Or.inl rfl) (hR0.1.less (N' := 110) (by omega)) (by omega) (by rw [e26]; exact g2) g1 (by rw [e26]; exact g4) hj (fun w hw hw2 => ⟨_, _, rfl, ?_⟩))
  repeat (refine Wp.step rfl ?_)
  refine Wp.ldM (k := 19) rfl rfl (by first | (simp only [nI_add, pk_mul, Nat.zero_add, Nat.add_zero]; done) | (simp only [nI_add, pk_mul, Nat.zero_add, Nat.add_zero]; exact rfl) | exact rfl) (by omega) (by decide) ?_
  have hR1 := hR0.drop hK (by rw [e26]; exact g2) g1 hj hw hw2
  have e := hR1.at (j := 19) (by omega) (by omega)
  rw [mA_same, e, dropP_19]
  exact Wp.fin rfl rfl (hQ _ ⟨K, F, gr, rt, lm, G, lw, m4.row hR1⟩)
