/-! law, intrigue, log, step, page -/
theorem in_m1 (v : Int32) {n : Nat} (hn : n ≤ 1000) : (-1 ≤ v ∧ v ≤ nI n - nI 1) ↔ (v = -1 ∨ ∃ j, j < n ∧ v = nI j) := by
  constructor
  · rintro ⟨h1, h2⟩
    by_cases h : v = -1
    · exact Or.inl h
    · refine Or.inr ((in_lt v hn).mp ⟨?_, h2⟩)
      rw [Int32.le_iff_toInt_le] at h1 ⊢
      have e1 : (-1 : Int32).toInt = -1 := rfl
      have e0 : (nI 0).toInt = 0 := rfl
      have e2 : v.toInt ≠ -1 := fun q => h (Int32.toInt_inj.mp (q.trans e1.symm))
      omega
  · rintro (rfl | h)
    · refine ⟨Int32.le_refl _, ?_⟩
      rw [Int32.le_iff_toInt_le]
      have e1 : (-1 : Int32).toInt = -1 := rfl
      by_cases h0 : n = 0
      · subst h0; decide
      · rw [pk_sub (by omega), e1, nI_toInt (by omega)]
        omega
    · obtain ⟨h1, h2⟩ := (in_lt v hn).mpr h
      refine ⟨?_, h2⟩
      rw [Int32.le_iff_toInt_le] at h1 ⊢
      have e1 : (-1 : Int32).toInt = -1 := rfl
      have e0 : (nI 0).toInt = 0 := rfl
      omega
theorem op_law (v : Int32) : OpX 8 131 [.int v] := by
  intro X M Z ⟨K, F, gr, rt, lm, G, lw, hC⟩ d u Q hd hu hQ
  obtain ⟨hG, hKF, hE, hM, hT, hL, hP, hR, hA, hN, hI⟩ := id hC
  obtain ⟨d, rfl⟩ : ∃ d0, d = d0 + 20 := ⟨d - 20, by omega⟩
  have hl4 : lm ≤ 4 := hM.2.2.2.2.2.1
  obtain ⟨l1, l2, l3, l4, l5⟩ := id hL
  iterate 6 refine Wp.step rfl ?_
  refine Wp.call rfl (Nat.zero_le _) (X_inP _ _ _ (v = -1 ∨ ∃ j, j < lm ∧ v = nI j) (by rw [l1]; exact in_m1 v (by omega)) (fun hc => ⟨_, _, rfl, ?_⟩) (fun hc => ⟨_, _, rfl, ?_⟩))
  case refine_2 =>
    refine Wp.brF rfl (by decide) ?_
    iterate 1 refine Wp.step rfl ?_
    refine Wp.finZ rfl (Or.inl rfl) (hQ _ X Z.2.2 ?_)
    intro d u Q hd hQ
    obtain ⟨d, rfl⟩ : ∃ d0, d = d0 + 20 := ⟨d - 20, by omega⟩
    iterate 2 refine Wp.step rfl ?_
    refine Wp.putM rfl rfl rfl ?_
    iterate 2 refine Wp.step rfl ?_
    refine Wp.brF rfl (fun q => hc (Or.inl q)) ?_
    iterate 8 refine Wp.step rfl ?_
    refine Wp.call rfl (Nat.zero_le _) (M_isIn v (nI 0) (M.1 7 - nI 1) rfl rfl (∃ j, j < lm ∧ v = nI j) (by rw [l2]; exact in_lt v (by omega)) (fun q => absurd (Or.inr q) hc) (fun q => ⟨_, _, rfl, ?_⟩))
    refine Wp.brF rfl (by decide) ?_
    refine Wp.step rfl ?_
    exact Wp.finZ rfl (Or.inl rfl) (hQ _ ⟨K, F, gr, rt, lm, G, lw, hC⟩)
  refine Wp.brT rfl (by decide) ?_
  iterate 2 refine Wp.step rfl ?_
  refine Wp.putX rfl rfl rfl ?_
  refine Wp.step rfl ?_
  refine Wp.finZ rfl (Or.inr rfl) (hQ _ _ Z.2.2 ?_)
  intro d u Q hd hQ
  obtain ⟨d, rfl⟩ : ∃ d0, d = d0 + 20 := ⟨d - 20, by omega⟩
  iterate 2 refine Wp.step rfl ?_
  refine Wp.putM rfl rfl rfl ?_
  have k9 : ∀ (d u : Nat) (Q : pmO → Prop), (∀ M', Cp (xI X 20 v) M' (zN Z Z.2.2) → Q (.inl (some (.int (nI 1))), hp (xI X 20 v) M' (zN Z Z.2.2))) → Wp d u 131 28 [some (.ref 35), some (.int v)] [] (hp (xI X 20 v) (mI M 0 (nI 0)) Z) Q := by
    intro d u Q hQ
    iterate 2 refine Wp.step rfl ?_
    refine Wp.putM rfl rfl rfl ?_
    refine Wp.step rfl ?_
    have eM : MLw M lm G (if v = -1 then none else some (G v.toNatClampNeg)) ∨ True := Or.inr trivial
    refine Wp.finZ rfl (Or.inr rfl) (hQ _ ⟨K, F, gr, rt, lm, G, if v = -1 then none else some (G v.toNatClampNeg), hG, hKF, ?_, ?_, hT, ⟨l1, l2, rfl, l4, l5⟩, hP, hR, hA, hN, hI⟩)
    · refine ⟨hE.1, hE.2.1, hE.2.2.1, hE.2.2.2.1, hE.2.2.2.2.1, ?_⟩
      rcases hc with rfl | ⟨j, hj, rfl⟩
      · exact Or.inl ⟨if_pos rfl, rfl⟩
      · rw [if_neg (by exact nI_m1 (by omega)), nI_clamp (by omega)]
        obtain ⟨r, lo, hi, h1, h2⟩ := l5 j hj
        exact Or.inr ⟨j, G j, r, lo, hi, rfl, rfl, by omega, h1, h2⟩
    · refine ⟨hM.1, hM.2.1, hM.2.2.1, hM.2.2.2.1, hM.2.2.2.2.1, hl4, ?_, hM.2.2.2.2.2.2.2.1, hM.2.2.2.2.2.2.2.2⟩
      rcases hc with rfl | ⟨j, hj, rfl⟩
      · exact Or.inl ⟨if_pos rfl, rfl⟩
      · rw [if_neg (by exact nI_m1 (by omega)), nI_clamp (by omega)]
        exact Or.inr ⟨j, hj, rfl, rfl⟩
  iterate 2 refine Wp.step rfl ?_
  by_cases h1 : v = -1
  · refine Wp.brT rfl h1 ?_
    exact k9 _ _ _ hQ
  refine Wp.brF rfl h1 ?_
  iterate 8 refine Wp.step rfl ?_
  refine Wp.call rfl (Nat.zero_le _) (M_isIn v (nI 0) (M.1 7 - nI 1) rfl rfl (∃ j, j < lm ∧ v = nI j) (by rw [l2]; exact in_lt v (by omega)) (fun q => ⟨_, _, rfl, ?_⟩) (fun q => absurd (hc.resolve_left h1) q))
  refine Wp.brT rfl (by decide) ?_
  exact k9 _ _ _ hQ
theorem op_intrigue (v : Int32) : OpX 9 132 [.int v] := by
  intro X M Z ⟨K, F, gr, rt, lm, G, lw, hC⟩ d u Q hd hu hQ
  obtain ⟨hG, hKF, hE, hM, hT, hL, hP, hR, hA, hN, hI⟩ := id hC
  obtain ⟨d, rfl⟩ : ∃ d0, d = d0 + 20 := ⟨d - 20, by omega⟩
  obtain ⟨l1, l2, l3, l4, l5⟩ := id hL
  iterate 3 refine Wp.step rfl ?_
  refine Wp.call rfl (Nat.zero_le _) (X_inP _ _ _ _ (in_le v (by omega : 0 ≤ 9) (by decide)) (fun hc => ⟨_, _, rfl, ?_⟩) (fun hc => ⟨_, _, rfl, ?_⟩))
  case refine_2 =>
    refine Wp.brT rfl rfl ?_
    iterate 1 refine Wp.step rfl ?_
    refine Wp.finZ rfl (Or.inl rfl) (hQ _ X Z.2.2 ?_)
    intro d u Q hd hQ
    obtain ⟨d, rfl⟩ : ∃ d0, d = d0 + 20 := ⟨d - 20, by omega⟩
    iterate 2 refine Wp.step rfl ?_
    refine Wp.putM rfl rfl rfl ?_
    iterate 4 refine Wp.step rfl ?_
    refine Wp.call rfl (Nat.zero_le _) (M_isIn v (nI 0) (nI 9) rfl rfl _ (in_le v (by omega : 0 ≤ 9) (by decide)) (fun q => absurd q hc) (fun q => ⟨_, _, rfl, ?_⟩))
    refine Wp.brT rfl rfl ?_
    refine Wp.step rfl ?_
    exact Wp.finZ rfl (Or.inl rfl) (hQ _ ⟨K, F, gr, rt, lm, G, lw, hC⟩)
  refine Wp.brF rfl (by decide) ?_
  iterate 3 refine Wp.step rfl ?_
  by_cases h1 : v = X.1 21
  · refine Wp.brF rfl (fun q => q h1) ?_
    iterate 1 refine Wp.step rfl ?_
    refine Wp.finZ rfl (Or.inl rfl) (hQ _ X Z.2.2 ?_)
    intro d u Q hd hQ
    obtain ⟨d, rfl⟩ : ∃ d0, d = d0 + 20 := ⟨d - 20, by omega⟩
    iterate 2 refine Wp.step rfl ?_
    refine Wp.putM rfl rfl rfl ?_
    iterate 4 refine Wp.step rfl ?_
    refine Wp.call rfl (Nat.zero_le _) (M_isIn v (nI 0) (nI 9) rfl rfl _ (in_le v (by omega : 0 ≤ 9) (by decide)) (fun q => ⟨_, _, rfl, ?_⟩) (fun q => absurd hc q))
    refine Wp.brF rfl (by decide) ?_
    iterate 3 refine Wp.step rfl ?_
    refine Wp.brF rfl (fun q => q (h1.trans l4)) ?_
    refine Wp.step rfl ?_
    exact Wp.finZ rfl (Or.inl rfl) (hQ _ ⟨K, F, gr, rt, lm, G, lw, hC⟩)
  refine Wp.brT rfl h1 ?_
  iterate 2 refine Wp.step rfl ?_
  refine Wp.putX rfl rfl rfl ?_
  refine Wp.step rfl ?_
  refine Wp.finZ rfl (Or.inr rfl) (hQ _ _ Z.2.2 ?_)
  intro d u Q hd hQ
  obtain ⟨d, rfl⟩ : ∃ d0, d = d0 + 20 := ⟨d - 20, by omega⟩
  iterate 2 refine Wp.step rfl ?_
  refine Wp.putM rfl rfl rfl ?_
  iterate 4 refine Wp.step rfl ?_
  refine Wp.call rfl (Nat.zero_le _) (M_isIn v (nI 0) (nI 9) rfl rfl _ (in_le v (by omega : 0 ≤ 9) (by decide)) (fun q => ⟨_, _, rfl, ?_⟩) (fun q => absurd hc q))
  refine Wp.brF rfl (by decide) ?_
  iterate 3 refine Wp.step rfl ?_
  refine Wp.brT rfl (fun q => h1 (q.trans l4.symm)) ?_
  iterate 2 refine Wp.step rfl ?_
  refine Wp.putM rfl rfl rfl ?_
  refine Wp.step rfl ?_
  exact Wp.finZ rfl (Or.inr rfl) (hQ _ ⟨K, F, gr, rt, lm, G, lw, hG, hKF, hE, hM, hT, ⟨l1, l2, l3, rfl, l5⟩, hP, hR, hA, hN, hI⟩)
theorem RowC.at {K F : Nat} {w now : Nat → Int32} (h : RowC K F w now) {j : Nat} (h1 : 16 ≤ j) (h2 : j < 291) : w j = now j := h.1.2 j h1 h2
theorem op_log (i w : Int32) : OpX 19 142 [.int i, .int w] := by
  intro X M Z ⟨K, F, gr, rt, lm, G, lw, hC⟩ d u Q hd hu hQ
  obtain ⟨hG, hKF, hE, hM, hT, hL, hP, hR, hA, hN, hI⟩ := id hC
  obtain ⟨d, rfl⟩ : ∃ d0, d = d0 + 20 := ⟨d - 20, by omega⟩
  obtain ⟨lg, g1, g2⟩ := hR.2.2
  have e110 : ma M 48 110 = nI lg := (hR.at (by omega) (by omega)).trans g2
  iterate 5 refine Wp.step rfl ?_
  refine Wp.ldX (k := 110) rfl rfl (by first | (simp only [nI_add, pk_mul, Nat.zero_add, Nat.add_zero]; done) | (simp only [nI_add, pk_mul, Nat.zero_add, Nat.add_zero]; exact rfl) | exact rfl) (by omega) (by decide) ?_
  iterate 2 refine Wp.step rfl ?_
  refine Wp.call rfl (Nat.zero_le _) (X_inP _ _ _ (∃ j, j < lg ∧ i = nI j) (by rw [g2]; exact in_lt i (by omega)) (fun hc => ⟨_, _, rfl, ?_⟩) (fun hc => ⟨_, _, rfl, ?_⟩))
  case refine_2 =>
    refine Wp.brT rfl rfl ?_
    iterate 1 refine Wp.step rfl ?_
    refine Wp.fin rfl rfl (hQ _ X Z.2.2 ?_)
    intro d u Q hd hQ
    obtain ⟨d, rfl⟩ : ∃ d0, d = d0 + 20 := ⟨d - 20, by omega⟩
    iterate 2 refine Wp.step rfl ?_
    refine Wp.putM rfl rfl rfl ?_
    iterate 6 refine Wp.step rfl ?_
    refine Wp.ldM (k := 110) rfl rfl (by first | (simp only [nI_add, pk_mul, Nat.zero_add, Nat.add_zero]; done) | (simp only [nI_add, pk_mul, Nat.zero_add, Nat.add_zero]; exact rfl) | exact rfl) (by omega) (by decide) ?_
    iterate 3 refine Wp.step rfl ?_
    refine Wp.call rfl (Nat.zero_le _) (M_isIn i (nI 0) (ma (mI M 0 (nI 0)) 48 110 - nI 1) rfl rfl (∃ j, j < lg ∧ i = nI j) (by simp only [ma_mI]; rw [e110]; exact in_lt i (by omega)) (fun q => absurd q hc) (fun q => ⟨_, _, rfl, ?_⟩))
    refine Wp.brT rfl rfl ?_
    refine Wp.step rfl ?_
    exact Wp.fin rfl rfl (hQ _ ⟨K, F, gr, rt, lm, G, lw, hC⟩)
  refine Wp.brF rfl (by decide) ?_
  iterate 3 refine Wp.step rfl ?_
  refine Wp.call rfl (Nat.zero_le _) (X_inP _ _ _ _ (in_le w (by omega : 0 ≤ 2) (by decide)) (fun hw => ⟨_, _, rfl, ?_⟩) (fun hw => ⟨_, _, rfl, ?_⟩))
  case refine_2 =>
    refine Wp.brT rfl rfl ?_
    iterate 1 refine Wp.step rfl ?_
    refine Wp.fin rfl rfl (hQ _ X Z.2.2 ?_)
    intro d u Q hd hQ
    obtain ⟨d, rfl⟩ : ∃ d0, d = d0 + 20 := ⟨d - 20, by omega⟩
    iterate 2 refine Wp.step rfl ?_
    refine Wp.putM rfl rfl rfl ?_
    iterate 6 refine Wp.step rfl ?_
    refine Wp.ldM (k := 110) rfl rfl (by first | (simp only [nI_add, pk_mul, Nat.zero_add, Nat.add_zero]; done) | (simp only [nI_add, pk_mul, Nat.zero_add, Nat.add_zero]; exact rfl) | exact rfl) (by omega) (by decide) ?_
    iterate 3 refine Wp.step rfl ?_
    refine Wp.call rfl (Nat.zero_le _) (M_isIn i (nI 0) (ma (mI M 0 (nI 0)) 48 110 - nI 1) rfl rfl (∃ j, j < lg ∧ i = nI j) (by simp only [ma_mI]; rw [e110]; exact in_lt i (by omega)) (fun q => ⟨_, _, rfl, ?_⟩) (fun q => absurd hc q))
    refine Wp.brF rfl (by decide) ?_
    iterate 4 refine Wp.step rfl ?_
    refine Wp.call rfl (Nat.zero_le _) (M_isIn w (nI 0) (nI 2) rfl rfl _ (in_le w (by omega : 0 ≤ 2) (by decide)) (fun q => absurd q hw) (fun q => ⟨_, _, rfl, ?_⟩))
    refine Wp.brT rfl rfl ?_
    refine Wp.step rfl ?_
    exact Wp.fin rfl rfl (hQ _ ⟨K, F, gr, rt, lm, G, lw, hC⟩)
  obtain ⟨i, hi, rfl⟩ := id hc
  obtain ⟨w, _, hw3, rfl⟩ := id hw
  have hx : nI 111 + nI 3 * (nI lg - nI 1 - nI i) + nI w = nI (111 + 3 * (lg - 1 - i) + w) := by
    rw [pk_sub (by omega), pk_sub (by omega), pk_mul, nI_add, nI_add]
  refine Wp.brF rfl (by decide) ?_
  repeat (refine Wp.step rfl ?_)
  refine Wp.ldX (k := 110) rfl rfl (by first | (simp only [nI_add, pk_mul, Nat.zero_add, Nat.add_zero]; done) | (simp only [nI_add, pk_mul, Nat.zero_add, Nat.add_zero]; exact rfl) | exact rfl) (by omega) (by decide) ?_
  repeat (refine Wp.step rfl ?_)
  refine Wp.ldX (k := 111 + 3 * (lg - 1 - i) + w) rfl rfl (by rw [g2]; exact hx) (by omega) (by decide) ?_
  iterate 1 refine Wp.step rfl ?_
  refine Wp.fin rfl rfl (hQ _ X Z.2.2 ?_)
  intro d u Q hd hQ
  obtain ⟨d, rfl⟩ : ∃ d0, d = d0 + 20 := ⟨d - 20, by omega⟩
  iterate 2 refine Wp.step rfl ?_
  refine Wp.putM rfl rfl rfl ?_
  iterate 6 refine Wp.step rfl ?_
  refine Wp.ldM (k := 110) rfl rfl (by first | (simp only [nI_add, pk_mul, Nat.zero_add, Nat.add_zero]; done) | (simp only [nI_add, pk_mul, Nat.zero_add, Nat.add_zero]; exact rfl) | exact rfl) (by omega) (by decide) ?_
  iterate 3 refine Wp.step rfl ?_
  refine Wp.call rfl (Nat.zero_le _) (M_isIn (nI i) (nI 0) (ma (mI M 0 (nI 0)) 48 110 - nI 1) rfl rfl (∃ j, j < lg ∧ nI i = nI j) (by simp only [ma_mI]; rw [e110]; exact in_lt (nI i) (by omega)) (fun q => ⟨_, _, rfl, ?_⟩) (fun q => absurd hc q))
  refine Wp.brF rfl (by decide) ?_
  iterate 4 refine Wp.step rfl ?_
  refine Wp.call rfl (Nat.zero_le _) (M_isIn (nI w) (nI 0) (nI 2) rfl rfl _ (in_le (nI w) (by omega : 0 ≤ 2) (by decide)) (fun q => ⟨_, _, rfl, ?_⟩) (fun q => absurd hw q))
  refine Wp.brF rfl (by decide) ?_
  repeat (refine Wp.step rfl ?_)
  refine Wp.ldM (k := 110) rfl rfl (by first | (simp only [nI_add, pk_mul, Nat.zero_add, Nat.add_zero]; done) | (simp only [nI_add, pk_mul, Nat.zero_add, Nat.add_zero]; exact rfl) | exact rfl) (by omega) (by decide) ?_
  repeat (refine Wp.step rfl ?_)
  refine Wp.ldM (k := 111 + 3 * (lg - 1 - i) + w) rfl rfl (by simp only [ma_mI]; rw [e110]; exact hx) (by omega) (by decide) ?_
  iterate 1 refine Wp.step rfl ?_
  have e : ma (mI M 0 (nI 0)) 48 (111 + 3 * (lg - 1 - i) + w) = xa X 26 (111 + 3 * (lg - 1 - i) + w) := hR.at (by omega) (by omega)
  rw [e]
  exact Wp.fin rfl rfl (hQ _ ⟨K, F, gr, rt, lm, G, lw, hC⟩)
theorem op_page (i w : Int32) : OpX 38 161 [.int i, .int w] := by
  intro X M Z ⟨K, F, gr, rt, lm, G, lw, hC⟩ d u Q hd hu hQ
  obtain ⟨hG, hKF, hE, hM, hT, hL, hP, hR, hA, hN, hI⟩ := id hC
  obtain ⟨d, rfl⟩ : ∃ d0, d = d0 + 20 := ⟨d - 20, by omega⟩
  obtain ⟨pg, g1, g2, _⟩ := hR.2.1.2.2
  have e19 : ma M 48 19 = nI pg := (hR.at (by omega) (by omega)).trans g2
  iterate 5 refine Wp.step rfl ?_
  refine Wp.ldX (k := 19) rfl rfl (by first | (simp only [nI_add, pk_mul, Nat.zero_add, Nat.add_zero]; done) | (simp only [nI_add, pk_mul, Nat.zero_add, Nat.add_zero]; exact rfl) | exact rfl) (by omega) (by decide) ?_
  iterate 2 refine Wp.step rfl ?_
  refine Wp.call rfl (Nat.zero_le _) (X_inP _ _ _ (∃ j, j < pg ∧ i = nI j) (by rw [g2]; exact in_lt i (by omega)) (fun hc => ⟨_, _, rfl, ?_⟩) (fun hc => ⟨_, _, rfl, ?_⟩))
  case refine_2 =>
    refine Wp.brT rfl rfl ?_
    iterate 1 refine Wp.step rfl ?_
    refine Wp.fin rfl rfl (hQ _ X Z.2.2 ?_)
    intro d u Q hd hQ
    obtain ⟨d, rfl⟩ : ∃ d0, d = d0 + 20 := ⟨d - 20, by omega⟩
    iterate 2 refine Wp.step rfl ?_
    refine Wp.putM rfl rfl rfl ?_
    iterate 6 refine Wp.step rfl ?_
    refine Wp.ldM (k := 19) rfl rfl (by first | (simp only [nI_add, pk_mul, Nat.zero_add, Nat.add_zero]; done) | (simp only [nI_add, pk_mul, Nat.zero_add, Nat.add_zero]; exact rfl) | exact rfl) (by omega) (by decide) ?_
    iterate 3 refine Wp.step rfl ?_
    refine Wp.call rfl (Nat.zero_le _) (M_isIn i (nI 0) (ma (mI M 0 (nI 0)) 48 19 - nI 1) rfl rfl (∃ j, j < pg ∧ i = nI j) (by simp only [ma_mI]; rw [e19]; exact in_lt i (by omega)) (fun q => absurd q hc) (fun q => ⟨_, _, rfl, ?_⟩))
    refine Wp.brT rfl rfl ?_
    refine Wp.step rfl ?_
    exact Wp.fin rfl rfl (hQ _ ⟨K, F, gr, rt, lm, G, lw, hC⟩)
  refine Wp.brF rfl (by decide) ?_
  iterate 3 refine Wp.step rfl ?_
  refine Wp.call rfl (Nat.zero_le _) (X_inP _ _ _ _ (in_le w (by omega : 0 ≤ 2) (by decide)) (fun hw => ⟨_, _, rfl, ?_⟩) (fun hw => ⟨_, _, rfl, ?_⟩))
  case refine_2 =>
    refine Wp.brT rfl rfl ?_
    iterate 1 refine Wp.step rfl ?_
    refine Wp.fin rfl rfl (hQ _ X Z.2.2 ?_)
    intro d u Q hd hQ
    obtain ⟨d, rfl⟩ : ∃ d0, d = d0 + 20 := ⟨d - 20, by omega⟩
    iterate 2 refine Wp.step rfl ?_
    refine Wp.putM rfl rfl rfl ?_
    iterate 6 refine Wp.step rfl ?_
    refine Wp.ldM (k := 19) rfl rfl (by first | (simp only [nI_add, pk_mul, Nat.zero_add, Nat.add_zero]; done) | (simp only [nI_add, pk_mul, Nat.zero_add, Nat.add_zero]; exact rfl) | exact rfl) (by omega) (by decide) ?_
    iterate 3 refine Wp.step rfl ?_
    refine Wp.call rfl (Nat.zero_le _) (M_isIn i (nI 0) (ma (mI M 0 (nI 0)) 48 19 - nI 1) rfl rfl (∃ j, j < pg ∧ i = nI j) (by simp only [ma_mI]; rw [e19]; exact in_lt i (by omega)) (fun q => ⟨_, _, rfl, ?_⟩) (fun q => absurd hc q))
    refine Wp.brF rfl (by decide) ?_
    iterate 4 refine Wp.step rfl ?_
    refine Wp.call rfl (Nat.zero_le _) (M_isIn w (nI 0) (nI 2) rfl rfl _ (in_le w (by omega : 0 ≤ 2) (by decide)) (fun q => absurd q hw) (fun q => ⟨_, _, rfl, ?_⟩))
    refine Wp.brT rfl rfl ?_
    refine Wp.step rfl ?_
    exact Wp.fin rfl rfl (hQ _ ⟨K, F, gr, rt, lm, G, lw, hC⟩)
  obtain ⟨i, hi, rfl⟩ := id hc
  obtain ⟨w, _, hw3, rfl⟩ := id hw
  refine Wp.brF rfl (by decide) ?_
  iterate 3 refine Wp.step rfl ?_
  refine Wp.call rfl (Nat.zero_le _) (X_pageOf X M Z (i := i) (k := w) (by omega) ⟨_, _, rfl, ?_⟩)
  iterate 1 refine Wp.step rfl ?_
  refine Wp.fin rfl rfl (hQ _ X Z.2.2 ?_)
  intro d u Q hd hQ
  obtain ⟨d, rfl⟩ : ∃ d0, d = d0 + 20 := ⟨d - 20, by omega⟩
  iterate 2 refine Wp.step rfl ?_
  refine Wp.putM rfl rfl rfl ?_
  iterate 6 refine Wp.step rfl ?_
  refine Wp.ldM (k := 19) rfl rfl (by first | (simp only [nI_add, pk_mul, Nat.zero_add, Nat.add_zero]; done) | (simp only [nI_add, pk_mul, Nat.zero_add, Nat.add_zero]; exact rfl) | exact rfl) (by omega) (by decide) ?_
  iterate 3 refine Wp.step rfl ?_
  refine Wp.call rfl (Nat.zero_le _) (M_isIn (nI i) (nI 0) (ma (mI M 0 (nI 0)) 48 19 - nI 1) rfl rfl (∃ j, j < pg ∧ nI i = nI j) (by simp only [ma_mI]; rw [e19]; exact in_lt (nI i) (by omega)) (fun q => ⟨_, _, rfl, ?_⟩) (fun q => absurd hc q))
  refine Wp.brF rfl (by decide) ?_
  iterate 4 refine Wp.step rfl ?_
  refine Wp.call rfl (Nat.zero_le _) (M_isIn (nI w) (nI 0) (nI 2) rfl rfl _ (in_le (nI w) (by omega : 0 ≤ 2) (by decide)) (fun q => ⟨_, _, rfl, ?_⟩) (fun q => absurd hw q))
  refine Wp.brF rfl (by decide) ?_
  iterate 9 refine Wp.step rfl ?_
  refine Wp.ldM (k := 20 + 3 * i + w) rfl rfl (by first | (simp only [nI_add, pk_mul, Nat.zero_add, Nat.add_zero]; done) | (simp only [nI_add, pk_mul, Nat.zero_add, Nat.add_zero]; exact rfl) | exact rfl) (by omega) (by decide) ?_
  iterate 1 refine Wp.step rfl ?_
  have e : ma (mI M 0 (nI 0)) 48 (20 + 3 * i + w) = xa X 26 (20 + 3 * i + w) := hR.at (by omega) (by omega)
  rw [e]
  exact Wp.fin rfl rfl (hQ _ ⟨K, F, gr, rt, lm, G, lw, hC⟩)
