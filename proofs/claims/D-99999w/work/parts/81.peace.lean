/-! peace, shelf -/
theorem liveP_RI {K F Y rt : Nat} {now gr : Nat → Int32} {lw : pmLw} (hG : GE K F gr rt) (hF : 0 < F) (h : RI K F Y now) (hY : Y < 2000) : RI K F (Y + 1) (liveP lw now gr F rt) ∧ ∀ j, 110 ≤ j → liveP lw now gr F rt j = now j := by
  obtain ⟨y, hy, h18⟩ := h.2.1
  exact ⟨(liveP_facts hG hF h h18 hy hY).1, (liveP_facts hG hF h h18 hy hY).2.2⟩
section PEACE
variable {K F rt : Nat} {gr : Nat → Int32} {lw : pmLw} {X0 : pmXs} {Z : pmZs}
/-- a promise of M inside a trial -/
def PrT (K F : Nat) (gr : Nat → Int32) (rt : Nat) (lw : pmLw) (Z : pmZs) (mi pc : Nat) (L : pmL) (r : Nat → Int32) (v : Int32) : Prop := ∀ (lm : Nat) (G : Nat → (Nat → Int32) → Int32) (Xf : pmXs) (M' : pmMs), TM K F gr rt lm G lw Xf M' Z r → ∀ (d u : Nat) (Q : pmO → Prop), 200 ≤ d → (∀ M'', Cq K F gr rt lm G lw Xf M'' Z → Q (.inl (some (.int v)), hp Xf M'' Z)) → Wp d u mi pc L [] (hp Xf M' Z) Q
theorem X_peace_l {d : Nat} {Mx : pmMs} {Q : pmO → Prop} (hd : 200 ≤ d) (hE : XE X0 Z K F gr rt lw) (hG : GE K F gr rt) (hF : 0 < F) (hQ : ∀ l v, LZ l → PrT K F gr rt lw Z 150 27 [some (.ref 35), some (.int (nI 1))] (xa X0 26) v → Q (.inl (some (.int v)), hp (TS X0 l (xa X0 26)) Mx Z)) : ∀ (m i : Nat) (l r : Nat → Int32) (u : Nat), i + m = 61 → 1 ≤ i → LZ l → RI K F (998 + i) r → (∀ j, 110 ≤ j → r j = xa X0 26 j) → (∀ v, PrT K F gr rt lw Z 150 27 [some (.ref 35), some (.int (nI i))] r v → PrT K F gr rt lw Z 150 27 [some (.ref 35), some (.int (nI 1))] (xa X0 26) v) → Wp d u 27 17 [some (.ref 14), some (.int (-1)), some (.int (nI i))] [] (hp (TS X0 l r) Mx Z) Q := by
  obtain ⟨d, rfl⟩ : ∃ d0, d = d0 + 20 := ⟨d - 20, by omega⟩
  have h44 : ∀ (u : Nat) (l r : Nat → Int32) (v w : Int32), LZ l → (∀ j, 110 ≤ j → r j = xa X0 26 j) → Q (.inl (some (.int v)), hp (TS X0 l (xa X0 26)) Mx Z) → Wp (d + 20) u 27 44 [some (.ref 14), some (.int v), some (.int w)] [] (hp (TS X0 l r) Mx Z) Q := by
    intro u l r v w hl hr q
    repeat (refine Wp.step rfl ?_)
    refine Wp.call rfl (Nat.zero_le _) (X_takeT hr ⟨_, _, rfl, ?_⟩)
    repeat (refine Wp.step rfl ?_)
    exact Wp.fin rfl rfl q
  intro m
  induction m with
  | zero =>
    intro i l r u hi h1 hl hI hr hp
    obtain rfl : i = 61 := by omega
    repeat (refine Wp.step rfl ?_)
    refine Wp.brT rfl (by decide) ?_
    refine h44 _ _ _ _ _ hl hr (hQ l (-1) hl (hp _ ?_))
    intro lm G Xf M' hT d u Q hd q
    repeat (refine Wp.step rfl ?_)
    refine Wp.brT rfl (by decide) ?_
    repeat (refine Wp.step rfl ?_)
    exact Wp.fin rfl rfl (q _ hT.1)
  | succ m ih =>
    intro i l r u hi h1 hl hI hr hp
    have hf := liveP_RI (lw := lw) hG hF hI (by omega)
    iterate 2 refine Wp.step rfl ?_
    refine Wp.brF rfl (Int32.not_lt.mpr (nI_le (by omega) (by omega))) ?_
    iterate 2 refine Wp.step rfl ?_
    refine Wp.brF rfl (fun q => q rfl) ?_
    repeat (refine Wp.step rfl ?_)
    refine Wp.call rfl (Nat.zero_le _) (X_liveT (Y := 998 + i) (y := 0) (by omega) hE hG hF hl hI (by omega) (fun l' hl' => ⟨_, _, rfl, ?_⟩))
    iterate 1 refine Wp.step rfl ?_
    by_cases hb : btP lw r gr F = -1
    · refine Wp.brF rfl (fun q => q hb) ?_
      have hv : PrT K F gr rt lw Z 150 27 [some (.ref 35), some (.int (nI i))] r (nI i) := by
        intro lm G Xf M' hT d u Q hd q
        obtain ⟨d, rfl⟩ : ∃ d0, d = d0 + 20 := ⟨d - 20, by omega⟩
        iterate 2 refine Wp.step rfl ?_
        refine Wp.brF rfl (Int32.not_lt.mpr (nI_le (by omega) (by omega))) ?_
        repeat (refine Wp.step rfl ?_)
        refine Wp.call rfl (Nat.zero_le _) (M_goT (Y := 998 + i) (by omega) hT hF hI (by omega) (fun M1 hT1 => ⟨_, _, rfl, ?_⟩))
        repeat (refine Wp.step rfl ?_)
        refine Wp.brF rfl (fun q => q hb) ?_
        repeat (refine Wp.step rfl ?_)
        exact Wp.fin rfl rfl (q _ hT1.1)
      have k9 := h44 (u - 0) l' (liveP lw r gr F rt) (nI i) (nI i + nI 1) hl' (fun j hj => (hf.2 j hj).trans (hr j hj)) (hQ l' _ hl' (hp _ hv))
      by_cases h60 : i = 60
      · subst h60
        iterate 6 refine Wp.step rfl ?_
        refine Wp.brT rfl (by decide) ?_
        exact k9
      · iterate 6 refine Wp.step rfl ?_
        refine Wp.brF rfl (by show ¬ nI 60 < nI i + nI 1; rw [nI_add]; exact Int32.not_lt.mpr (nI_le (by omega) (by omega))) ?_
        iterate 2 refine Wp.step rfl ?_
        refine Wp.brT rfl (nI_m1 (by omega)) ?_
        exact k9
    · refine Wp.brT rfl hb ?_
      have k9 := ih (i + 1) l' (liveP lw r gr F rt) (u - 0) (by omega) (by omega) hl' hf.1 (fun j hj => (hf.2 j hj).trans (hr j hj)) (fun v hv => hp v ?_)
      · rw [← nI_add i 1] at k9
        repeat (first | exact k9 | refine Wp.step rfl ?_)
      intro lm G Xf M' hT d u Q hd q
      obtain ⟨d, rfl⟩ : ∃ d0, d = d0 + 20 := ⟨d - 20, by omega⟩
      iterate 2 refine Wp.step rfl ?_
      refine Wp.brF rfl (Int32.not_lt.mpr (nI_le (by omega) (by omega))) ?_
      repeat (refine Wp.step rfl ?_)
      refine Wp.call rfl (Nat.zero_le _) (M_goT (Y := 998 + i) (by omega) hT hF hI (by omega) (fun M1 hT1 => ⟨_, _, rfl, ?_⟩))
      iterate 1 refine Wp.step rfl ?_
      refine Wp.brT rfl hb ?_
      have k9 := hv _ _ Xf M1 hT1 (d + 20) (u - 0) Q (by omega) q
      rw [← nI_add i 1] at k9
      repeat (first | exact k9 | refine Wp.step rfl ?_)
end PEACE
theorem op_peace : OpX 27 150 [] := by
  intro X M Z ⟨K, F, gr, rt, lm, G, lw, hC⟩ d u Q hd hu hQ
  obtain ⟨hG, hKF, hE, hM, hT, hL, hP, hR, hA, hN, hI⟩ := id hC
  obtain ⟨d, rfl⟩ : ∃ d0, d = d0 + 20 := ⟨d - 20, by omega⟩
  have hK := hG.1
  repeat (refine Wp.step rfl ?_)
  refine Wp.call rfl (Nat.zero_le _) (X_isRealm hE.1 hG.1 (fun hc => ⟨_, _, rfl, ?_⟩) (fun hc => ⟨_, _, rfl, ?_⟩))
  case refine_2 =>
    refine Wp.brF rfl (by decide) ?_
    repeat (refine Wp.step rfl ?_)
    refine Wp.fin rfl rfl (hQ _ X Z.2.2 ?_)
    intro d u Q hd hQ
    obtain ⟨d, rfl⟩ : ∃ d0, d = d0 + 20 := ⟨d - 20, by omega⟩
    iterate 2 refine Wp.step rfl ?_
    refine Wp.putM rfl rfl rfl ?_
    repeat (refine Wp.step rfl ?_)
    refine Wp.brF rfl (fun q => q (by show M.1 26 = 0; rw [hM.1, hc]; rfl)) ?_
    repeat (refine Wp.step rfl ?_)
    exact Wp.fin rfl rfl (hQ _ ⟨K, F, gr, rt, lm, G, lw, hC⟩)
  refine Wp.brT rfl (by decide) ?_
  repeat (refine Wp.step rfl ?_)
  refine Wp.call rfl (Nat.zero_le _) (X_asideT ⟨_, _, rfl, ?_⟩)
  iterate 4 refine Wp.step rfl ?_
  refine X_peace_l (d := d + 19 + 1) (by omega) hE hG (KF_pos hKF hc) ?_ 60 1 _ _ _ (by omega) (by omega) hE.2.2.2.2.1 hR.2.1 (fun _ _ => rfl) (fun v hv => hv)
  intro l v hl hv
  refine hQ _ _ Z.2.2 ?_
  intro d u Q hd hQ
  obtain ⟨d, rfl⟩ : ∃ d0, d = d0 + 20 := ⟨d - 20, by omega⟩
  iterate 2 refine Wp.step rfl ?_
  refine Wp.putM rfl rfl rfl ?_
  repeat (refine Wp.step rfl ?_)
  refine Wp.brT rfl (by show M.1 26 ≠ 0; rw [hM.1]; exact fun q => absurd ((nI_eq (b := 0) (by omega) (by omega)).mp q) (by omega)) ?_
  repeat (refine Wp.step rfl ?_)
  have hC2 : Cq K F gr rt lm G lw (TS X l (xa X 26)) (mI M 0 (nI 0)) Z := TS_cq hC hl
  refine Wp.call rfl (Nat.zero_le _) (M_copyT hC2 (fun M1 hT => ⟨_, _, rfl, ?_⟩))
  rw [TS_26] at hT
  have k9 := hv _ _ _ M1 hT (d + 19 + 1) (u - 0) Q (by omega) (fun M2 h2 => hQ _ ⟨K, F, gr, rt, lm, G, lw, h2⟩)
  repeat (first | exact k9 | refine Wp.step rfl ?_)
