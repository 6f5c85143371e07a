/-! shelf -/
section SHELF
variable {K F rt : Nat} {gr : Nat → Int32} {lw : pmLw} {X0 : pmXs} {Z : pmZs}
theorem X_shelf_l {d k n : Nat} {Mx : pmMs} {Q : pmO → Prop} (hd : 200 ≤ d) (hE : XE X0 Z K F gr rt lw) (hG : GE K F gr rt) (hF : 0 < F) (hn : n ≤ 30) (hQ : ∀ l v, LZ l → PrT K F gr rt lw Z 148 40 [some (.ref 35), some (.int (nI k)), some (.int (nI n)), some (.int (nI 0)), none] (xa X0 26) v → Q (.inl (some (.int v)), hp (TS X0 l (xa X0 26)) Mx Z)) : ∀ (m i : Nat) (l r : Nat → Int32) (u : Nat) (l4 : Option Value), i + m = 60 → LZ l → RI K F (999 + i) r → (∀ j, 110 ≤ j → r j = xa X0 26 j) → (∀ v, PrT K F gr rt lw Z 148 40 [some (.ref 35), some (.int (nI k)), some (.int (nI n)), some (.int (nI i)), l4] r v → PrT K F gr rt lw Z 148 40 [some (.ref 35), some (.int (nI k)), some (.int (nI n)), some (.int (nI 0)), none] (xa X0 26) v) → Wp d u 25 26 [some (.ref 14), some (.int (nI k)), some (.int (nI n)), some (.int (nI i)), none] [] (hp (TS X0 l r) Mx Z) Q := by
  obtain ⟨d, rfl⟩ : ∃ d0, d = d0 + 20 := ⟨d - 20, by omega⟩
  have h52 : ∀ (u i Y : Nat) (l r : Nat → Int32), LZ l → RI K F Y r → (∀ j, 110 ≤ j → r j = xa X0 26 j) → (∀ pg, r 19 = nI pg → pg ≤ 30 → Q (.inl (some (.int (if n ≤ cntP r (nI k) pg then nI i else -1))), hp (TS X0 l (xa X0 26)) Mx Z)) → Wp (d + 20) u 25 52 [some (.ref 14), some (.int (nI k)), some (.int (nI n)), some (.int (nI i)), none] [] (hp (TS X0 l r) Mx Z) Q := by
    intro u i Y l r hl hI hr q
    obtain ⟨pg, hpg, h19, _⟩ := hI.2.2
    have q1 := q pg h19 hpg
    have hc := cntP_le r (nI k) pg
    iterate 2 refine Wp.step rfl ?_
    refine Wp.call rfl (Nat.zero_le _) (X_pagesOf (TS X0 l r) Mx Z (nI k) (pg := pg) (by rw [TS_26]; exact h19) hpg ⟨_, _, rfl, ?_⟩)
    rw [TS_26]
    iterate 1 refine Wp.step rfl ?_
    by_cases c : n ≤ cntP r (nI k) pg
    · rw [if_pos c] at q1
      refine Wp.brF rfl (Int32.not_lt.mpr (nI_le c (by omega))) ?_
      repeat (refine Wp.step rfl ?_)
      refine Wp.call rfl (Nat.zero_le _) (X_takeT hr ⟨_, _, rfl, ?_⟩)
      iterate 1 refine Wp.step rfl ?_
      refine Wp.brF rfl (by decide) ?_
      repeat (refine Wp.step rfl ?_)
      exact Wp.fin rfl rfl q1
    · rw [if_neg c] at q1
      refine Wp.brT rfl (nI_lt (by omega) (by omega)) ?_
      repeat (refine Wp.step rfl ?_)
      refine Wp.call rfl (Nat.zero_le _) (X_takeT hr ⟨_, _, rfl, ?_⟩)
      iterate 1 refine Wp.step rfl ?_
      refine Wp.brT rfl rfl ?_
      repeat (refine Wp.step rfl ?_)
      exact Wp.fin rfl rfl q1
  have hM1 : ∀ (i Y : Nat) (r : Nat → Int32) (l4 : Option Value) (v : Int32), i ≤ 60 → RI K F Y r → Y < 2000 → ∀ pg, r 19 = nI pg → pg ≤ 30 → (n ≤ cntP r (nI k) pg → v = nI i) → (¬ n ≤ cntP r (nI k) pg → PrT K F gr rt lw Z 148 40 [some (.ref 35), some (.int (nI k)), some (.int (nI n)), some (.int (nI (i + 1))), some (.int (btP lw r gr F))] (liveP lw r gr F rt) v) → PrT K F gr rt lw Z 148 40 [some (.ref 35), some (.int (nI k)), some (.int (nI n)), some (.int (nI i)), l4] r v := by
    intro i Y r l4 v hi hI hY pg h19 hpg hv hp lm G Xf M' hT d u Q hd q
    obtain ⟨d, rfl⟩ : ∃ d0, d = d0 + 20 := ⟨d - 20, by omega⟩
    have hc := cntP_le r (nI k) pg
    iterate 2 refine Wp.step rfl ?_
    refine Wp.brF rfl (Int32.not_lt.mpr (nI_le (by omega) (by omega))) ?_
    repeat (refine Wp.step rfl ?_)
    refine Wp.call rfl (Nat.zero_le _) (M_pagesOf (a := 49) (N := 110) (Or.inr rfl) hT.2.1 (by omega) h19 hpg (nI k) ⟨_, _, rfl, ?_⟩)
    iterate 1 refine Wp.step rfl ?_
    by_cases c : n ≤ cntP r (nI k) pg
    · refine Wp.brF rfl (Int32.not_lt.mpr (nI_le c (by omega))) ?_
      repeat (refine Wp.step rfl ?_)
      rw [hv c] at q
      exact Wp.fin rfl rfl (q _ hT.1)
    · refine Wp.brT rfl (nI_lt (by omega) (by omega)) ?_
      repeat (refine Wp.step rfl ?_)
      refine Wp.call rfl (Nat.zero_le _) (M_goT (Y := Y) (by omega) hT hF hI hY (fun M1 hT1 => ⟨_, _, rfl, ?_⟩))
      have k9 := hp c _ _ Xf M1 hT1 (d + 20) (u - 0 - 0) Q (by omega) q
      rw [← nI_add i 1] at k9
      repeat (first | exact k9 | refine Wp.step rfl ?_)
  intro m
  induction m with
  | zero =>
    intro i l r u l4 hi hl hI hr hp
    obtain rfl : i = 60 := by omega
    iterate 2 refine Wp.step rfl ?_
    refine Wp.brT rfl (by decide) ?_
    refine h52 _ _ _ _ _ hl hI hr (fun pg h19 hpg => hQ l _ hl (hp _ (hM1 60 _ r l4 _ (by omega) hI (by omega) pg h19 hpg (fun c => if_pos c) (fun c => ?_))))
    rw [if_neg c]
    intro lm G Xf M' hT d u Q hd q
    repeat (refine Wp.step rfl ?_)
    refine Wp.brT rfl (by decide) ?_
    repeat (refine Wp.step rfl ?_)
    exact Wp.fin rfl rfl (q _ hT.1)
  | succ m ih =>
    intro i l r u l4 hi hl hI hr hp
    have hf := liveP_RI (lw := lw) hG hF hI (by omega)
    obtain ⟨pg, hpg, h19, _⟩ := hI.2.2
    have hc := cntP_le r (nI k) pg
    iterate 2 refine Wp.step rfl ?_
    refine Wp.brF rfl (nI_ge (by omega) (by omega)) ?_
    iterate 2 refine Wp.step rfl ?_
    refine Wp.call rfl (Nat.zero_le _) (X_pagesOf (TS X0 l r) Mx Z (nI k) (pg := pg) (by rw [TS_26]; exact h19) hpg ⟨_, _, rfl, ?_⟩)
    rw [TS_26]
    iterate 1 refine Wp.step rfl ?_
    by_cases c : n ≤ cntP r (nI k) pg
    · refine Wp.brT rfl (nI_le c (by omega)) ?_
      refine h52 _ i _ _ _ hl hI hr (fun pg' h19' hpg' => ?_)
      obtain rfl : pg' = pg := (nI_eq (by omega) (by omega)).mp (h19'.symm.trans h19)
      rw [if_pos c]
      exact hQ l _ hl (hp _ (hM1 i _ r l4 _ (by omega) hI (by omega) pg' h19 hpg (fun _ => rfl) (fun z => absurd c z)))
    · refine Wp.brF rfl (nI_ge (by omega) (by omega)) ?_
      repeat (refine Wp.step rfl ?_)
      refine Wp.call rfl (Nat.zero_le _) (X_liveT (Y := 999 + i) (y := 0) (by omega) hE hG hF hl hI (by omega) (fun l' hl' => ⟨_, _, rfl, ?_⟩))
      have k9 := ih (i + 1) l' (liveP lw r gr F rt) (u - 0 - 0) (some (.int (btP lw r gr F))) (by omega) hl' hf.1 (fun j hj => (hf.2 j hj).trans (hr j hj)) (fun v hv => hp v (hM1 i _ r l4 _ (by omega) hI (by omega) pg h19 hpg (fun z => absurd z c) (fun _ => hv)))
      rw [← nI_add i 1] at k9
      repeat (first | exact k9 | refine Wp.step rfl ?_)
end SHELF
theorem op_shelf (k n : Int32) : OpX 25 148 [.int k, .int n] := by
  intro X M Z ⟨K, F, gr, rt, lm, G, lw, hC⟩ d u Q hd hu hQ
  obtain ⟨hG, hKF, hE, hM, hT, hL, hP, hR, hA, hN, hI⟩ := id hC
  obtain ⟨d, rfl⟩ : ∃ d0, d = d0 + 20 := ⟨d - 20, by omega⟩
  have hK := hG.1
  repeat (refine Wp.step rfl ?_)
  refine Wp.call rfl (Nat.zero_le _) (X_isK hE.1 hG.1 k (fun hc => ⟨_, _, rfl, ?_⟩) (fun hc => ⟨_, _, rfl, ?_⟩))
  case refine_2 =>
    refine Wp.brT rfl rfl ?_
    repeat (refine Wp.step rfl ?_)
    refine Wp.fin rfl rfl (hQ _ X Z.2.2 ?_)
    intro d u Q hd hQ
    obtain ⟨d, rfl⟩ : ∃ d0, d = d0 + 20 := ⟨d - 20, by omega⟩
    iterate 2 refine Wp.step rfl ?_
    refine Wp.putM rfl rfl rfl ?_
    repeat (refine Wp.step rfl ?_)
    refine Wp.call rfl (Nat.zero_le _) (M_is (Or.inl ⟨rfl, rfl⟩) (by exact hM.1) (by omega) k (fun q => absurd q hc) (fun q => ⟨_, _, rfl, ?_⟩))
    refine Wp.brT rfl rfl ?_
    repeat (refine Wp.step rfl ?_)
    exact Wp.fin rfl rfl (hQ _ ⟨K, F, gr, rt, lm, G, lw, hC⟩)
  refine Wp.brF rfl (by decide) ?_
  repeat (refine Wp.step rfl ?_)
  refine Wp.call rfl (Nat.zero_le _) (X_inP _ _ _ _ (in_le n (by omega : 1 ≤ 30) (by decide)) (fun hw => ⟨_, _, rfl, ?_⟩) (fun hw => ⟨_, _, rfl, ?_⟩))
  case refine_2 =>
    refine Wp.brF rfl (by decide) ?_
    repeat (refine Wp.step rfl ?_)
    refine Wp.fin rfl rfl (hQ _ X Z.2.2 ?_)
    intro d u Q hd hQ
    obtain ⟨d, rfl⟩ : ∃ d0, d = d0 + 20 := ⟨d - 20, by omega⟩
    iterate 2 refine Wp.step rfl ?_
    refine Wp.putM rfl rfl rfl ?_
    repeat (refine Wp.step rfl ?_)
    refine Wp.call rfl (Nat.zero_le _) (M_is (Or.inl ⟨rfl, rfl⟩) (by exact hM.1) (by omega) k (fun q => ⟨_, _, rfl, ?_⟩) (fun q => absurd hc q))
    refine Wp.brF rfl (by decide) ?_
    repeat (refine Wp.step rfl ?_)
    refine Wp.call rfl (Nat.zero_le _) (M_isIn n (nI 1) (nI 30) rfl rfl _ (in_le n (by omega : 1 ≤ 30) (by decide)) (fun q => absurd q hw) (fun q => ⟨_, _, rfl, ?_⟩))
    refine Wp.brF rfl (by decide) ?_
    repeat (refine Wp.step rfl ?_)
    exact Wp.fin rfl rfl (hQ _ ⟨K, F, gr, rt, lm, G, lw, hC⟩)
  obtain ⟨k, hk, rfl⟩ := id hc
  obtain ⟨n, hn1, hn, rfl⟩ := id hw
  refine Wp.brT rfl (by decide) ?_
  iterate 1 refine Wp.step rfl ?_
  refine Wp.call rfl (Nat.zero_le _) (X_asideT ⟨_, _, rfl, ?_⟩)
  iterate 2 refine Wp.step rfl ?_
  refine X_shelf_l (d := d + 19 + 1) (k := k) (n := n) (by omega) hE hG (KF_pos hKF (by omega)) hn ?_ 60 0 _ _ _ none (by omega) hE.2.2.2.2.1 hR.2.1 (fun _ _ => rfl) (fun v hv => hv)
  intro l v hl hv
  refine hQ _ _ Z.2.2 ?_
  intro d u Q hd hQ
  obtain ⟨d, rfl⟩ : ∃ d0, d = d0 + 20 := ⟨d - 20, by omega⟩
  iterate 2 refine Wp.step rfl ?_
  refine Wp.putM rfl rfl rfl ?_
  repeat (refine Wp.step rfl ?_)
  refine Wp.call rfl (Nat.zero_le _) (M_is (Or.inl ⟨rfl, rfl⟩) (by exact hM.1) (by omega) (nI k) (fun q => ⟨_, _, rfl, ?_⟩) (fun q => absurd hc q))
  refine Wp.brF rfl (by decide) ?_
  repeat (refine Wp.step rfl ?_)
  refine Wp.call rfl (Nat.zero_le _) (M_isIn (nI n) (nI 1) (nI 30) rfl rfl _ (in_le (nI n) (by omega : 1 ≤ 30) (by decide)) (fun q => ⟨_, _, rfl, ?_⟩) (fun q => absurd hw q))
  refine Wp.brT rfl (by decide) ?_
  repeat (refine Wp.step rfl ?_)
  have hC2 : Cq K F gr rt lm G lw (TS X l (xa X 26)) (mI M 0 (nI 0)) Z := TS_cq hC hl
  refine Wp.call rfl (Nat.zero_le _) (M_copyT hC2 (fun M1 hT => ⟨_, _, rfl, ?_⟩))
  rw [TS_26] at hT
  have k9 := hv _ _ _ M1 hT (d + 19 + 1) (u - 0 - 0 - 0) Q (by omega) (fun M2 h2 => hQ _ ⟨K, F, gr, rt, lm, G, lw, h2⟩)
  repeat (first | exact k9 | refine Wp.step rfl ?_)
