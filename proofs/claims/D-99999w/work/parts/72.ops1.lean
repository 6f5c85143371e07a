/-! the coupled operations -/
def OpM (mm : Nat) (args : List Value) (X : pmXs) (M : pmMs) (Z : pmZs) (v : Int32) : Prop := ∀ (d u : Nat) (Q : pmO → Prop), 300 ≤ d → (∀ M', Cp X M' Z → Q (.inl (some (.int v)), hp X M' Z)) → Wp d u mm 0 (pm_entry mm (.ref 35 :: args)) [] (hp X M Z) Q
def OpX (mx mm : Nat) (args : List Value) : Prop := ∀ (X : pmXs) (M : pmMs) (Z : pmZs), Cp X M Z → ∀ (d u : Nat) (Q : pmO → Prop), 300 ≤ d → 3000 ≤ u → (∀ v X' N, OpM mm args X' M (zN Z N) v → Q (.inl (some (.int v)), hp X' M (zN Z N))) → Wp d u mx 0 (pm_entry mx (.ref 14 :: args)) [] (hp X M Z) Q
theorem op_end (n : Int32) : OpX 4 125 [.int n] := by
  intro X M Z ⟨K, F, gr, rt, lm, G, lw, hC⟩ d u Q hd hu hQ
  obtain ⟨hG, hKF, hE, hM, hT, hL, hP, hR, hA, hN, hI⟩ := id hC
  obtain ⟨d, rfl⟩ : ∃ d0, d = d0 + 20 := ⟨d - 20, by omega⟩
  iterate 1 refine Wp.step rfl ?_
  by_cases h0 : n < 0
  · refine Wp.brT rfl h0 ?_
    iterate 1 refine Wp.step rfl ?_
    refine Wp.finZ rfl (Or.inl rfl) (hQ _ X Z.2.2 ?_)
    intro d u Q hd hQ
    obtain ⟨d, rfl⟩ : ∃ d0, d = d0 + 20 := ⟨d - 20, by omega⟩
    iterate 2 refine Wp.step rfl ?_
    refine Wp.putM rfl rfl rfl ?_
    iterate 1 refine Wp.step rfl ?_
    refine Wp.brT rfl h0 ?_
    refine Wp.step rfl ?_
    exact Wp.finZ rfl (Or.inl rfl) (hQ _ ⟨K, F, gr, rt, lm, G, lw, hC⟩)
  refine Wp.brF rfl h0 ?_
  obtain ⟨n0, t1, t2, t3, t4⟩ := hT
  iterate 3 refine Wp.step rfl ?_
  obtain ⟨j, hj, rfl⟩ := nI_of h0
  by_cases h1 : j ≤ n0
  case neg =>
    refine Wp.brF rfl (by rw [t1]; exact nI_ge (by omega) (by omega)) ?_
    iterate 1 refine Wp.step rfl ?_
    refine Wp.finZ rfl (Or.inl rfl) (hQ _ X Z.2.2 ?_)
    intro d u Q hd hQ
    obtain ⟨d, rfl⟩ : ∃ d0, d = d0 + 20 := ⟨d - 20, by omega⟩
    iterate 2 refine Wp.step rfl ?_
    refine Wp.putM rfl rfl rfl ?_
    iterate 1 refine Wp.step rfl ?_
    refine Wp.brF rfl h0 ?_
    iterate 3 refine Wp.step rfl ?_
    refine Wp.brF rfl (by show ¬ nI j ≤ M.1 6; rw [t2]; exact nI_ge (by omega) (by omega)) ?_
    refine Wp.step rfl ?_
    exact Wp.finZ rfl (Or.inl rfl) (hQ _ ⟨K, F, gr, rt, lm, G, lw, hC⟩)
  refine Wp.brT rfl (by rw [t1]; exact nI_le (by omega) (by omega)) ?_
  iterate 2 refine Wp.step rfl ?_
  refine Wp.putX rfl rfl rfl ?_
  refine Wp.step rfl ?_
  refine Wp.finZ rfl (Or.inr rfl) (hQ _ _ Z.2.2 ?_)
  intro d u Q hd hQ
  obtain ⟨d, rfl⟩ : ∃ d0, d = d0 + 20 := ⟨d - 20, by omega⟩
  iterate 2 refine Wp.step rfl ?_
  refine Wp.putM rfl rfl rfl ?_
  iterate 1 refine Wp.step rfl ?_
  refine Wp.brF rfl h0 ?_
  iterate 3 refine Wp.step rfl ?_
  refine Wp.brT rfl (by show nI j ≤ M.1 6; rw [t2]; exact nI_le (by omega) (by omega)) ?_
  iterate 2 refine Wp.step rfl ?_
  refine Wp.putM rfl rfl rfl ?_
  refine Wp.step rfl ?_
  exact Wp.finZ rfl (Or.inr rfl) (hQ _ ⟨K, F, gr, rt, lm, G, lw, hG, hKF, hE, hM, ⟨j, rfl, rfl, by omega, fun i hi => t4 i (by omega)⟩, hL, hP, hR, hA, hN, hI⟩)
theorem in_03 (v : Int32) {lo hi : Nat} (h0 : lo ≤ hi) (hh : hi < 2 ^ 30) : (nI lo ≤ v ∧ v ≤ nI hi) ↔ ∃ j, lo ≤ j ∧ j ≤ hi ∧ v = nI j := in_le v h0 hh
theorem op_field (f w : Int32) : OpX 7 130 [.int f, .int w] := by
  intro X M Z ⟨K, F, gr, rt, lm, G, lw, hC⟩ d u Q hd hu hQ
  obtain ⟨hG, hKF, hE, hM, hT, hL, hP, hR, hA, hN, hI⟩ := id hC
  obtain ⟨d, rfl⟩ : ∃ d0, d = d0 + 20 := ⟨d - 20, by omega⟩
  iterate 2 refine Wp.step rfl ?_
  refine Wp.call rfl (Nat.zero_le _) (X_isF hE.2.1 hG.2.1 f (fun hc => ⟨_, _, rfl, ?_⟩) (fun hc => ⟨_, _, rfl, ?_⟩))
  case refine_2 =>
    refine Wp.brT rfl rfl ?_
    iterate 1 refine Wp.step rfl ?_
    refine Wp.fin rfl rfl (hQ _ X Z.2.2 ?_)
    intro d u Q hd hQ
    obtain ⟨d, rfl⟩ : ∃ d0, d = d0 + 20 := ⟨d - 20, by omega⟩
    iterate 2 refine Wp.step rfl ?_
    refine Wp.putM rfl rfl rfl ?_
    iterate 2 refine Wp.step rfl ?_
    refine Wp.call rfl (Nat.zero_le _) (M_is (Or.inr (Or.inl ⟨rfl, rfl⟩)) (by exact hM.2.1) hG.2.1 f (fun q => absurd q hc) (fun q => ⟨_, _, rfl, ?_⟩))
    refine Wp.brT rfl rfl ?_
    refine Wp.step rfl ?_
    exact Wp.fin rfl rfl (hQ _ ⟨K, F, gr, rt, lm, G, lw, hC⟩)
  refine Wp.brF rfl (by decide) ?_
  iterate 3 refine Wp.step rfl ?_
  refine Wp.call rfl (Nat.zero_le _) (X_inP _ _ _ _ (in_le w (by omega : 0 ≤ 3) (by decide)) (fun hw => ⟨_, _, rfl, ?_⟩) (fun hw => ⟨_, _, rfl, ?_⟩))
  case refine_2 =>
    refine Wp.brT rfl rfl ?_
    iterate 1 refine Wp.step rfl ?_
    refine Wp.fin rfl rfl (hQ _ X Z.2.2 ?_)
    intro d u Q hd hQ
    obtain ⟨d, rfl⟩ : ∃ d0, d = d0 + 20 := ⟨d - 20, by omega⟩
    iterate 2 refine Wp.step rfl ?_
    refine Wp.putM rfl rfl rfl ?_
    iterate 2 refine Wp.step rfl ?_
    refine Wp.call rfl (Nat.zero_le _) (M_is (Or.inr (Or.inl ⟨rfl, rfl⟩)) (by exact hM.2.1) hG.2.1 f (fun q => ⟨_, _, rfl, ?_⟩) (fun q => absurd hc q))
    refine Wp.brF rfl (by decide) ?_
    iterate 4 refine Wp.step rfl ?_
    refine Wp.call rfl (Nat.zero_le _) (M_isIn w (nI 0) (nI 3) rfl rfl _ (in_le w (by omega : 0 ≤ 3) (by decide)) (fun q => absurd q hw) (fun q => ⟨_, _, rfl, ?_⟩))
    refine Wp.brT rfl rfl ?_
    refine Wp.step rfl ?_
    exact Wp.fin rfl rfl (hQ _ ⟨K, F, gr, rt, lm, G, lw, hC⟩)
  obtain ⟨f, hf, rfl⟩ := id hc
  obtain ⟨w, _, hw3, rfl⟩ := id hw
  have hF := hG.2.1
  refine Wp.brF rfl (by decide) ?_
  iterate 3 refine Wp.step rfl ?_
  refine Wp.call rfl (Nat.zero_le _) (X_of X M Z (F := f) (K := w) (by omega) ⟨_, _, rfl, ?_⟩)
  iterate 1 refine Wp.step rfl ?_
  refine Wp.fin rfl rfl (hQ _ X Z.2.2 ?_)
  intro d u Q hd hQ
  obtain ⟨d, rfl⟩ : ∃ d0, d = d0 + 20 := ⟨d - 20, by omega⟩
  iterate 2 refine Wp.step rfl ?_
  refine Wp.putM rfl rfl rfl ?_
  iterate 2 refine Wp.step rfl ?_
  refine Wp.call rfl (Nat.zero_le _) (M_is (Or.inr (Or.inl ⟨rfl, rfl⟩)) (by exact hM.2.1) hG.2.1 (nI f) (fun q => ⟨_, _, rfl, ?_⟩) (fun q => absurd hc q))
  refine Wp.brF rfl (by decide) ?_
  iterate 4 refine Wp.step rfl ?_
  refine Wp.call rfl (Nat.zero_le _) (M_isIn (nI w) (nI 0) (nI 3) rfl rfl _ (in_le (nI w) (by omega : 0 ≤ 3) (by decide)) (fun q => ⟨_, _, rfl, ?_⟩) (fun q => absurd hw q))
  refine Wp.brF rfl (by decide) ?_
  iterate 7 refine Wp.step rfl ?_
  refine Wp.ldM (k := 4 * f + w) rfl rfl (by first | (simp only [nI_add, pk_mul, Nat.zero_add, Nat.add_zero]; done) | (simp only [nI_add, pk_mul, Nat.zero_add, Nat.add_zero]; exact rfl) | exact rfl) (by omega) (by decide) ?_
  iterate 1 refine Wp.step rfl ?_
  have e : ma (mI M 0 (nI 0)) 44 (4 * f + w) = xa X 22 (4 * f + w) := (hM.2.2.1 _ (by omega)).trans (hE.2.2.1 _ (by omega)).symm
  rw [e]
  exact Wp.fin rfl rfl (hQ _ ⟨K, F, gr, rt, lm, G, lw, hC⟩)
