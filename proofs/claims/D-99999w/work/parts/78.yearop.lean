/-! what X alone keeps, and the promises to M -/
theorem liveP_facts {K F Y rt y : Nat} {now gr : Nat → Int32} {lw : pmLw} (hG : GE K F gr rt) (hF : 0 < F) (h : RI K F Y now) (h18 : now 18 = nI y) (hy : y ≤ Y) (hY : Y < 2000) : RI K F (Y + 1) (liveP lw now gr F rt) ∧ liveP lw now gr F rt 18 = nI (y + 1) ∧ ∀ j, 110 ≤ j → liveP lw now gr F rt j = now j := by
  have hf : y % F < F := Nat.mod_lt _ hF
  have hfP := fP_of (F := F) h18 (by omega)
  obtain ⟨a, b, g, t, a1, a2, a3, a4, a5, a6, a7, a8, a9⟩ := hG.2.2.2 (y % F) hf
  obtain ⟨pg, hpg, h19, _⟩ := h.2.2
  have hK := hG.1
  have e : liveP lw now gr F rt = liveR (nP lw now gr F) now gr rt (y % F) a b := by unfold liveP; rw [hfP, gN_of a6 (by omega), gN_of a7 (by omega)]
  rw [e]
  refine ⟨RI_liveR h hK hG.2.2.1 a1 a2 hf h18 hy, ?_, fun j hj => liveR_hi hj (by rw [pgN_of h19 hpg]; exact hpg) (by omega) (by omega)⟩
  unfold liveR
  rw [h18, nI_add]
  split
  · rw [pk_us]
  · rw [pk_us]
theorem RI.upY {K F Y Y' : Nat} {now : Nat → Int32} (h : RI K F Y now) {y : Nat} (h18 : now 18 = nI y) (hy : y ≤ Y') : RI K F Y' now := ⟨h.1, ⟨y, hy, h18⟩, h.2.2⟩
theorem RowC.log {K F : Nat} {w c : Nat → Int32} (hK : K ≤ 4) (h : RowC K F w c) (f bt tl : Int32) : RowC K F (logP w f bt tl) (logP c f bt tl) := ⟨h.1.log f bt tl, h.2.1.ext hK (fun j hj => logP_lo hj), h.2.2.log f bt tl⟩
/-- X's own invariant -/
def XV (K F : Nat) (gr : Nat → Int32) (rt : Nat) (lw : pmLw) (X : pmXs) (Z : pmZs) : Prop := GE K F gr rt ∧ XE X Z K F gr rt lw ∧ RI K F 999 (xa X 26) ∧ LI (xa X 26) ∧ ∃ ac, ac ≤ 40 ∧ X.1 24 = nI ac
theorem Cq.xv {K F rt lm : Nat} {gr : Nat → Int32} {G : Nat → (Nat → Int32) → Int32} {lw : pmLw} {X : pmXs} {M : pmMs} {Z : pmZs} (h : Cq K F gr rt lm G lw X M Z) : XV K F gr rt lw X Z := by
  obtain ⟨hG, hKF, hE, hM, hT, hL, hP, hR, ⟨ac, a1, a2, _⟩, hN, hI⟩ := h
  exact ⟨hG, hE, hR.2.1, hR.2.2, ac, a1, a2⟩
section XV
variable {K F rt : Nat} {gr : Nat → Int32} {lw : pmLw} {X : pmXs} {Z : pmZs}
theorem XV.act (h : XV K F gr rt lw X Z) : ∃ X1, (∀ k, k ≠ 24 → X1.1 k = X.1 k) ∧ X1.2.1 = X.2.1 ∧ (∀ a, a ≠ 27 → xa X1 a = xa X a) ∧ XV K F gr rt lw X1 Z ∧ (∀ (d u : Nat) (Mx : pmMs) (Q : pmO → Prop), Q (.inl none, hp X1 Mx Z) → Wp d u 53 0 (pm_entry 53 [.ref 14]) [] (hp X Mx Z) Q) ∧ ∀ (lm : Nat) (G : Nat → (Nat → Int32) → Int32) (M' : pmMs), Cq K F gr rt lm G lw X M' Z → ∃ M1, (∀ k, k ≠ 39 → M1.1 k = M'.1 k) ∧ M1.2.1 = M'.2.1 ∧ (∀ a, a ≠ 52 → ma M1 a = ma M' a) ∧ Cq K F gr rt lm G lw X1 M1 Z ∧ ∀ (d u : Nat) (X' : pmXs) (Q : pmO → Prop), Q (.inl none, hp X' M1 Z) → Wp d u 175 0 (pm_entry 175 [.ref 35]) [] (hp X' M' Z) Q := by
  obtain ⟨g0, g1, g2, g3, ac, a1, a2⟩ := h
  refine ⟨xI (xA X 27 (keepX X ac)) 24 (nI (acts1 ac)), fun k hk => xI_ne _ _ hk, rfl, fun a ha => xA_ne X _ ha, ⟨g0, g1, g2, g3, acts1 ac, acts1_le a1, rfl⟩, fun d u Mx Q q => X_act X Mx Z a2 a1 q, ?_⟩
  intro lm G M' h'
  obtain ⟨hG, hKF, hE, hM, hT, hL, hP, hR, ⟨ac', b1, b2, b3, b4⟩, hN, hI⟩ := h'
  obtain rfl : ac' = ac := (nI_eq (by omega) (by omega)).mp (b2.symm.trans a2)
  refine ⟨mI (mA M' 52 (keepF (ma M' 48) (ma M' 52) ac')) 39 (nI (acts1 ac')), fun k hk => mI_ne _ _ hk, rfl, fun a ha => mA_ne M' _ ha, ⟨hG, hKF, hE, hM, hT, hL, hP, hR, ⟨acts1 ac', acts1_le a1, rfl, rfl, acts_keep hG.1 a1 b4 hR⟩, hN, hI⟩, fun d u X' Q q => M_remember X' M' Z b3 b1 q⟩
/-- a year that is real -/
theorem XV.passA {y : Nat} (h : XV K F gr rt lw X Z) (hF : 0 < F) (h18 : xa X 26 18 = nI y) (hy : y ≤ 998) : ∀ (d u : Nat) (Mx : pmMs) (Q : pmO → Prop), 154 ≤ d → (∀ X1, (∀ a, a ≠ 17 → a ≠ 26 → xa X1 a = xa X a) → X1.1 = X.1 → X1.2.1 = X.2.1 → xa X1 26 18 = nI (y + 1) → XV K F gr rt lw X1 Z → (∀ (lm : Nat) (G : Nat → (Nat → Int32) → Int32) (M' : pmMs), Cq K F gr rt lm G lw X M' Z → ∀ (d u : Nat) (X' : pmXs) (Q : pmO → Prop), 170 ≤ d → (∀ M1, M1.2.1 = M'.2.1 → Cq K F gr rt lm G lw X1 M1 Z → Q (.inl (some (.int (btP lw (xa X 26) gr F))), hp X' M1 Z)) → Wp d u 176 0 (pm_entry 176 [.ref 35, .ref 48]) [] (hp X' M' Z) Q) → Q (.inl (some (.int (btP lw (xa X 26) gr F))), hp X1 Mx Z)) → Wp d u 54 0 (pm_entry 54 [.ref 14]) [] (hp X Mx Z) Q := by
  intro d u Mx Q hd hQ
  obtain ⟨g0, g1, g2, g3, g4⟩ := h
  have hL := liveP_facts (lw := lw) g0 hF (g2.upY h18 hy) h18 hy (by omega)
  have hLI : LI (liveP lw (xa X 26) gr F rt) := by
    obtain ⟨lg, a, b⟩ := g3
    exact ⟨lg, a, (hL.2.2 110 (by omega)).trans b⟩
  refine X_passYear hd g1 g0 hF g2 (by omega) g3 (fun l hl => ?_)
  refine hQ _ (fun a h1 h2 => by rw [xA_ne _ _ h2, xA_ne _ _ h1]) rfl rfl (by rw [xA_same, logP_lo (by omega)]; exact hL.2.1) ⟨g0, (g1.let hl).row _, ?_, ?_, g4⟩ ?_
  · rw [xA_same]; exact hL.1.ext g0.1 (fun j hj => logP_lo hj)
  · rw [xA_same]; exact hLI.log _ _ _
  intro lm G M' h' d u X' Q hd hQ
  have hR := h'.2.2.2.2.2.2.2.1
  have hLM : LI (ma M' 48) := by
    obtain ⟨lg, a, b⟩ := g3
    exact ⟨lg, a, (hR.at (by omega) (by omega)).trans b⟩
  refine M_goYear (a := 48) hd h'.2.2.2.1 g0 hF (Or.inl rfl) hR.1 (by omega) g2 (by omega) hLM (fun M1 w1 j1 j2 j3 j4 => ?_)
  refine hQ _ j1.2.1 (((h'.jf j1 j2).let hl).row ?_)
  exact RowC.log g0.1 ⟨j3, hL.1, hLI⟩ _ _ _
theorem XV.pass {y : Nat} (h : XV K F gr rt lw X Z) (hF : 0 < F) (h18 : xa X 26 18 = nI y) (hy : y ≤ 998) : ∀ (d u : Nat) (Mx : pmMs) (Q : pmO → Prop), 154 ≤ d → (∀ X1, X1.1 = X.1 → X1.2.1 = X.2.1 → xa X1 26 18 = nI (y + 1) → XV K F gr rt lw X1 Z → (∀ (lm : Nat) (G : Nat → (Nat → Int32) → Int32) (M' : pmMs), Cq K F gr rt lm G lw X M' Z → ∀ (d u : Nat) (X' : pmXs) (Q : pmO → Prop), 170 ≤ d → (∀ M1, M1.2.1 = M'.2.1 → Cq K F gr rt lm G lw X1 M1 Z → Q (.inl (some (.int (btP lw (xa X 26) gr F))), hp X' M1 Z)) → Wp d u 176 0 (pm_entry 176 [.ref 35, .ref 48]) [] (hp X' M' Z) Q) → Q (.inl (some (.int (btP lw (xa X 26) gr F))), hp X1 Mx Z)) → Wp d u 54 0 (pm_entry 54 [.ref 14]) [] (hp X Mx Z) Q := fun d u Mx Q hd hQ => h.passA hF h18 hy d u Mx Q hd (fun X1 _ a b c e f => hQ X1 a b c e f)
end XV
theorem KF_pos {K F : Nat} (h : K = 0 ∧ F = 0 ∨ 2 ≤ K ∧ 1 ≤ F) (hK : 0 < K) : 0 < F := by omega
theorem X_canPass {d u K y n : Nat} {X : pmXs} {M : pmMs} {Z : pmZs} {Q : pmO → Prop} (hK : X.1 13 = nI K) (hK4 : K ≤ 4) (h18 : xa X 26 18 = nI y) (hy : y ≤ 999) (hn : n ≤ 1000) (h1 : 0 < K ∧ y + n ≤ 999 → Q (.inl (some (.int 1)), hp X M Z)) (h0 : ¬ (0 < K ∧ y + n ≤ 999) → Q (.inl (some (.int 0)), hp X M Z)) : Wp (d + 1) u 52 0 (pm_entry 52 [.ref 14, .int (nI n)]) [] (hp X M Z) Q := by
  repeat (refine Wp.step rfl ?_)
  refine Wp.call rfl (Nat.zero_le _) (X_isRealm hK hK4 (fun hc => ⟨_, _, rfl, ?_⟩) (fun hc => ⟨_, _, rfl, ?_⟩))
  case refine_2 =>
    refine Wp.brT rfl rfl ?_
    repeat (refine Wp.step rfl ?_)
    exact Wp.finZ rfl (Or.inl rfl) (h0 (by omega))
  refine Wp.brF rfl (by decide) ?_
  repeat (refine Wp.step rfl ?_)
  refine Wp.ldX (k := 18) rfl rfl (by first | (simp only [nI_add, pk_mul, Nat.zero_add, Nat.add_zero]; done) | (simp only [nI_add, pk_mul, Nat.zero_add, Nat.add_zero]; exact rfl) | exact rfl) (by omega) (by decide) ?_
  rw [h18]
  iterate 2 refine Wp.step rfl ?_
  simp only [nI_add]
  refine Wp.step rfl ?_
  by_cases c : y + n ≤ 999
  · refine Wp.brF rfl (Int32.not_lt.mpr (nI_le c (by decide))) ?_
    repeat (refine Wp.step rfl ?_)
    exact Wp.finZ rfl (Or.inr rfl) (h1 ⟨hc, c⟩)
  · refine Wp.brT rfl (nI_lt (by omega) (by omega)) ?_
    repeat (refine Wp.step rfl ?_)
    exact Wp.finZ rfl (Or.inl rfl) (h0 (by omega))
theorem op_year : OpX 10 133 [] := by
  intro X M Z ⟨K, F, gr, rt, lm, G, lw, hC⟩ d u Q hd hu hQ
  obtain ⟨hG, hKF, hE, hM, hT, hL, hP, hR, hA, hN, hI⟩ := id hC
  obtain ⟨d, rfl⟩ : ∃ d0, d = d0 + 20 := ⟨d - 20, by omega⟩
  obtain ⟨_, ⟨y, hy, h18⟩, _⟩ := hR.2.1
  have e18 : ma M 48 18 = nI y := (hR.at (by omega) (by omega)).trans h18
  repeat (refine Wp.step rfl ?_)
  refine Wp.call rfl (Nat.zero_le _) (X_canPass hE.1 hG.1 h18 hy (n := 1) (by omega) (fun hc => ⟨_, _, rfl, ?_⟩) (fun hc => ⟨_, _, rfl, ?_⟩))
  case refine_2 =>
    refine Wp.brF rfl (by decide) ?_
    repeat (refine Wp.step rfl ?_)
    refine Wp.fin rfl rfl (hQ _ X Z.2.2 ?_)
    intro d u Q hd hQ
    obtain ⟨d, rfl⟩ : ∃ d0, d = d0 + 20 := ⟨d - 20, by omega⟩
    iterate 2 refine Wp.step rfl ?_
    refine Wp.putM rfl rfl rfl ?_
    repeat (refine Wp.step rfl ?_)
    by_cases c : K = 0
    · refine Wp.brT rfl (by show M.1 26 = 0; rw [hM.1, c]; rfl) ?_
      repeat (refine Wp.step rfl ?_)
      exact Wp.fin rfl rfl (hQ _ ⟨K, F, gr, rt, lm, G, lw, hC⟩)
    refine Wp.brF rfl (by show M.1 26 ≠ 0; rw [hM.1]; exact fun q => c ((nI_eq (b := 0) (by have := hG.1; omega) (by omega)).mp q)) ?_
    repeat (refine Wp.step rfl ?_)
    refine Wp.ldM (k := 18) rfl rfl (by first | (simp only [nI_add, pk_mul, Nat.zero_add, Nat.add_zero]; done) | (simp only [nI_add, pk_mul, Nat.zero_add, Nat.add_zero]; exact rfl) | exact rfl) (by omega) (by decide) ?_
    repeat (refine Wp.step rfl ?_)
    refine Wp.brF rfl (by simp only [ma_mI]; rw [e18, show y = 999 by omega]; exact fun q => q rfl) ?_
    repeat (refine Wp.step rfl ?_)
    exact Wp.fin rfl rfl (hQ _ ⟨K, F, gr, rt, lm, G, lw, hC⟩)
  have hK := hG.1
  refine Wp.brT rfl (by decide) ?_
  obtain ⟨X1, x1, x2, x3, xv, x4, x5⟩ := hC.xv.act
  have h18' : xa X1 26 18 = nI y := by rw [x3 26 (by decide)]; exact h18
  repeat (refine Wp.step rfl ?_)
  refine Wp.call rfl (Nat.zero_le _) (x4 _ _ _ _ ⟨_, _, rfl, ?_⟩)
  repeat (refine Wp.step rfl ?_)
  refine Wp.call rfl (Nat.zero_le _) (xv.pass (y := y) (KF_pos hKF hc.1) h18' (by omega) _ _ _ _ (by omega) (fun X2 a1 a2 a3 a4 a5 => ⟨_, _, rfl, ?_⟩))
  refine Wp.fin rfl rfl (hQ _ _ Z.2.2 ?_)
  intro d u Q hd hQ
  obtain ⟨d, rfl⟩ : ∃ d0, d = d0 + 20 := ⟨d - 20, by omega⟩
  iterate 2 refine Wp.step rfl ?_
  refine Wp.putM rfl rfl rfl ?_
  repeat (refine Wp.step rfl ?_)
  refine Wp.brF rfl (by show M.1 26 ≠ 0; rw [hM.1]; exact fun q => absurd ((nI_eq (b := 0) (by omega) (by omega)).mp q) (by omega)) ?_
  repeat (refine Wp.step rfl ?_)
  refine Wp.ldM (k := 18) rfl rfl (by first | (simp only [nI_add, pk_mul, Nat.zero_add, Nat.add_zero]; done) | (simp only [nI_add, pk_mul, Nat.zero_add, Nat.add_zero]; exact rfl) | exact rfl) (by omega) (by decide) ?_
  repeat (refine Wp.step rfl ?_)
  refine Wp.brT rfl (by simp only [ma_mI]; rw [e18]; exact fun q => absurd ((nI_eq (b := 999) (by omega) (by omega)).mp q) (by omega)) ?_
  repeat (refine Wp.step rfl ?_)
  obtain ⟨M1, m1, m2, m3, m4, m5⟩ := x5 _ _ (mI M 0 (nI 0)) hC
  refine Wp.call rfl (Nat.zero_le _) (m5 _ _ _ _ ⟨_, _, rfl, ?_⟩)
  repeat (refine Wp.step rfl ?_)
  refine Wp.call rfl (Nat.zero_le _) (a5 _ _ M1 m4 _ _ _ _ (by omega) (fun M2 b1 b2 => ⟨_, _, rfl, ?_⟩))
  exact Wp.fin rfl rfl (hQ _ ⟨K, F, gr, rt, lm, G, lw, b2⟩)
